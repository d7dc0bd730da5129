set_option maxRecDepth 100000
/-! words of one more call -/
theorem cv_X7_81 : CWV RX7 81 m_X7_takeAway 2 7 := ⟨pl_X7_takeAway, ⟨q1459, qs61⟩, Or.inl q1457, _, (cw7).1, rfl⟩
