set_option maxRecDepth 100000
/-! SLOTS: items in slots; texts read -/
abbrev slc (s : Nat) : Nat := 1185 + 27 * s
theorem slc_all : (List.range 12).all (fun s => decide (lay (1185 + 27 * s) = (0, 9, 8))) = true := by decide +kernel
theorem slc_lay {s : Nat} (h : s < 12) : lay (slc s) = (0, 9, 8) := by
  have := List.all_eq_true.mp slc_all s (List.mem_range.mpr h)
  simpa using this
/-- 2 for terms, 1 for ratios -/
noncomputable def kdI (i : Itm) : Nat := cite (isT i.2.2.1 i.2.2.2.1 i.2.2.2.2) 2 1
abbrev Lsl (s : Nat) : List Nat := slc s :: Lit (slc s + 1)
section
variable {g : GX} {d n : Nat} {h h' : Hp} {a b c : Nat}
theorem ok_isSlot (hp : g.2.2.2.2 = true) {x : Int32} {Q : Int32 → Hp → Prop} (q1 : ∀ s : Nat, s < 12 → x = nI s → Q 1 h) (q0 : (∀ s : Nat, s < 12 → x ≠ nI s) → Q 0 h) : CallI g m_X0_isSlot d [.int x] n h Q := by
  refine okI 0 rfl rfl (s_X0_isSlot_0 hp ⟨fun c => qI (q0 (fun s hs e => ?_)), fun c => ?_⟩)
  · rw [e] at c
    exact nI_pos (by omega) c
  · rcases I32_cases x with hx | ⟨k, hk, rfl⟩
    · exact absurd hx c
    · rw [show (12 : Int32) = nI 12 from rfl, nI_leI (by omega) hk]
      refine ⟨fun c2 => qI (q0 (fun s hs e => ?_)), fun c2 => qI (q1 k (by omega) rfl)⟩
      have e2 : k = s := by
        have h1 := nI_toInt hk
        rw [e, nI_toInt (by omega)] at h1
        omega
      omega
theorem ok_ikeep (hp : g.2.2.2.2 = true) (ta : lay a = (0, 5, 8)) {s : Nat} (hs : s < 12) (hne : a ≠ slc s + 1) (K : Kp h) {i : Itm} (Ha : IIt h a i) {Q : Int32 → Hp → Prop} (q : ∀ h', Fr h h' (Lsl s) → IIt h' (slc s + 1) i → ri h' (slc s) 0 = nI (kdI i) → Q (nI (kdI i)) h') : CallI g m_X0_keep (d + 4) [.ref 0, .ref a, .int (nI s)] n h Q := by
  have ts := slc_lay hs
  have tI := lf_9_1 ts
  have far := it_far ta tI hne
  have hsc : slc s = 1185 + 27 * s := rfl
  refine okI 0 rfl rfl (s_X0_keep_0 hp ta ⟨nI_inL hs (by omega), fun r1 e1 => ?_⟩)
  rw [nI_tN (by omega)] at e1
  subst e1
  refine ok_icopy hp tI ta (Ne.symm hne) K Ha (fun h2 f2 H2 => ⟨nI_inL hs (by omega), fun r3 e3 => ?_⟩)
  rw [nI_tN (by omega)] at e3
  subst e3
  have na : a ≠ slc s := fun e => by rw [e, ts] at ta; cases ta
  have Ha2 : IIt h2 a i := Ha.fr2 f2 (fun x h1 h2 => by simp; omega)
  have last : ∀ k : Nat, k = kdI i → k < 10 → W_X0_keep g (d + 3) [.ref 0, .ref a, .int (nI s)] (QI n Q) n 31 [some (.ref 0), none, some (.int (nI s))] [.int (nI k), .ref (slc s)] h2 := by
    intro k ek hk
    refine s_X0_keep_31 hp ts (fun h4 e4 => ⟨nI_inL hs (by omega), fun r2 e2 => ?_⟩)
    rw [nI_tN (by omega)] at e2
    subst e2
    have f4 : Fr h h4 (Lsl s) := by rw [e4]; exact (f2.mono (fun x hx => List.mem_cons_of_mem _ hx)).put (by simp) (okp_o ts (Or.inr (by decide)))
    have f4' : Fr h2 h4 [slc s] := by rw [e4]; exact Fr.rf.put (by simp) (okp_o ts (Or.inr (by decide)))
    have e5 : ri h4 (slc s) 0 = nI (kdI i) := by rw [e4, ri_same, ek]
    show QI n Q (some (.int (ri h4 (slc s) 0))) n h4
    rw [e5]
    exact qI (q h4 f4 (IIt.fr2 (i := i) H2 f4' (fun x h1 _ => by simp; omega)) e5)
  refine ok_isTerm hp ta Ha2.2.1 Ha2.2.2.1 Ha2.2.2.2 (fun z => ⟨fun w => absurd w (by decide), fun _ => last 2 (by unfold kdI; rw [cite_pos z]) (by omega)⟩) (fun z => ⟨fun _ => last 1 (by unfold kdI; rw [cite_neg z]) (by omega), fun w => absurd rfl w⟩)
theorem ok_keepResult (hp : g.2.2.2.2 = true) {s : Nat} (hs : s < 12) (K : Kp h) {T B : Bi} (H : RI h 81 T B) {Q : Int32 → Hp → Prop} (q : ∀ h', Fr h h' (80 :: Lsl s) → IIt h' (slc s + 1) (T, B, 1, 1, []) → ri h' (slc s) 0 = nI 1 → Q (nI 1) h') : CallI g m_X0_keepResult (d + 5) [.ref 0, .int (nI s)] n h Q := by
  have t80 : lay 80 = (0, 5, 8) := by decide +kernel
  have hsc : slc s = 1185 + 27 * s := rfl
  have ek : kdI (T, B, 1, 1, []) = 1 := by unfold kdI; rw [cite_neg (by simp [isT])]
  refine okI 0 rfl rfl (s_X0_keepResult_0 hp (ok_plain hp t80 (fun h1 f1 p1 p2 p3 => ?_)))
  refine ok_ikeep (i := (T, B, 1, 1, [])) hp t80 hs (by omega) (f1.kp K) ⟨H.fr f1 (by decide) (by decide) (by decide) (by decide), p1, p2, p3⟩ (fun h2 f2 H2 e2 => ?_)
  rw [ek] at e2 ⊢
  exact qI (q h2 ((f1.mono (by simp)).tr (f2.mono (fun x hx => List.mem_cons_of_mem _ hx))) H2 e2)
/-- what reading a tape gives: a flaw, or a value -/
noncomputable def rdT (t : Nat → Int32) (len : Nat) : RV := cite ((gram t len).1 = true) (cite (nxc t len (gram t len).2 = -1) ((vp t len (8 * len + 10) 0 0 itN).getD (Sum.inr (1, 0))) (Sum.inr (1, skp t len (gram t len).2))) (Sum.inr (1, (gram t len).2))
/-- what read leaves: the places 8 to 10 and 12 to 19 of the house, its working cells and the pile -/
def Rz (h h' : Hp) : Prop := h'.2 = h.2 ∧ (∀ x, ¬ Sv 0 x → h'.1 x = h.1 x) ∧ (Kp h → Kp h') ∧ ∀ k, (k < 8 ∨ k = 11 ∨ k = 18 ∨ 19 < k) → ri h' 0 k = ri h 0 k
theorem Rz.tr {h1 h2 : Hp} (f : Rz h h1) (e : Rz h1 h2) : Rz h h2 := ⟨e.1.trans f.1, fun x hx => (e.2.1 x hx).trans (f.2.1 x hx), fun k => e.2.2.1 (f.2.2.1 k), fun k hk => (e.2.2.2 k hk).trans (f.2.2.2 k hk)⟩
theorem Rz.rf : Rz h h := ⟨rfl, fun _ _ => rfl, id, fun _ _ => rfl⟩
theorem Rz.put {h1 : Hp} (f : Rz h h1) {k : Nat} {v : Int32} (hk : 12 ≤ k ∧ k ≤ 19 ∧ k ≠ 18) : Rz h (wi h1 0 k v) := by
  refine f.tr ⟨rfl, fun x hx => ?_, fun K => K.put (okp_o l0 (Or.inr (by decide))), fun j hj => ?_⟩
  · exact wi_ne1 (fun e => hx (Or.inl (by omega)))
  · exact ri_ne' (by omega)
theorem Rz.of_z (f : Fz h h') : Rz h h' := ⟨f.1.1, fun x hx => f.1.2.1 x (fun w => hx (Or.inl (by simp at w; omega))), f.1.2.2, fun k hk => f.2 k (by omega)⟩
theorem Rz.of_v (f : Vz 0 h h') : Rz h h' := ⟨f.1, f.2.1, f.2.2.1, fun k hk => f.2.2.2 k (by omega)⟩
theorem ok_read (hp : g.2.2.2.2 = true) (K : Kp h) {t : Nat → Int32} {len s : Nat} (hs : s < 12) (T : TP h t len) (hby : byt t len) {Q : Int32 → Hp → Prop} (q1 : ∀ p i, rdT t len = Sum.inl (p, i) → gI i → ∀ h1 h', Rz h h1 → ri h1 0 12 = 0 → ri h1 0 17 = -1 → Fr h1 h' (Lsl s) → IIt h' (slc s + 1) i → ri h' (slc s) 0 = nI (kdI i) → Q (nI (kdI i)) h') (q0 : ∀ c pl, rdT t len = Sum.inr (c, pl) → ∀ h', Rz h h' → ri h' 0 12 = 0 → ri h' 0 17 = nI pl → Q (-10 - nI c) h') : CallI g m_X0_read (d + 140) [.ref 0, .int (nI s)] n h Q := by
  have hl := T.2.1
  have t1509 := pcl_lay (show 0 < 100 by omega)
  have hsc : slc s = 1185 + 27 * s := rfl
  -- the end with a flaw, the end without
  have endF : ∀ (h6 : Hp) (c pl : Nat), Rz h h6 → PF h6 (nI c) (nI pl) → rdT t len = Sum.inr (c, pl) → W_X0_read g (d + 139) [.ref 0, .int (nI s)] (QI n Q) n 73 [some (.ref 0), some (.int (nI s))] [] h6 := by
    intro h6 c pl f6 P6 er
    refine s_X0_read_73 hp (fun h7 e7 => ?_)
    have g7 : ∀ k, k ≠ 12 → ri h7 0 k = ri h6 0 k := fun k hk => by rw [e7, ri_ne' hk]
    refine ⟨fun _ => s_X0_read_94 hp l0 (fun h8 e8 => ?_), fun w => absurd (by rw [g7 15 (by decide)] at w; exact P6.2.1.symm.trans w) P6.1⟩
    have g8 : ri h8 0 15 = nI c := by rw [e8, ri_ne' (by decide), g7 15 (by decide)]; exact P6.2.1
    rw [g8]
    refine ⟨fun _ => qI (q0 c pl er h8 ?_ ?_ ?_), fun w => absurd w P6.1⟩
    · rw [e8]; exact Rz.put (by rw [e7]; exact f6.put (by omega)) (by omega)
    · rw [e8, ri_ne' (by decide), e7, ri_same]
    · rw [e8, ri_same, g7 16 (by decide)]; exact P6.2.2
  have endT : ∀ (h6 : Hp) (p : Nat) (i : Itm), Rz h h6 → ri h6 0 15 = 0 → IIt h6 (pcl 0) i → gI i → rdT t len = Sum.inl (p, i) → W_X0_read g (d + 139) [.ref 0, .int (nI s)] (QI n Q) n 73 [some (.ref 0), some (.int (nI s))] [] h6 := by
    intro h6 p i f6 P6 H6 gi er
    refine s_X0_read_73 hp (fun h7 e7 => ?_)
    have g7 : ∀ k, k ≠ 12 → ri h7 0 k = ri h6 0 k := fun k hk => by rw [e7, ri_ne' hk]
    refine ⟨fun w => absurd (by rw [g7 15 (by decide)]; exact P6) w, fun _ => s_X0_read_94 hp l0 (fun h8 e8 => ?_)⟩
    have g8 : ri h8 0 15 = 0 := by rw [e8, ri_ne' (by decide), g7 15 (by decide)]; exact P6
    have f8 : Rz h h8 := by rw [e8]; exact Rz.put (by rw [e7]; exact f6.put (by omega)) (by omega)
    have r8 : Fr h6 h8 [0] := by rw [e8]; exact Fr.put (by rw [e7]; exact Fr.rf.put (by simp) (okp_o l0 (Or.inr (by decide)))) (by simp) (okp_o l0 (Or.inr (by decide)))
    refine ⟨fun w => absurd g8 w, fun _ => ⟨nI_inL (k := 0) (by omega) (by omega), fun r2 e2 => ?_⟩⟩
    subst e2
    refine ok_ikeep (a := pcl 0) hp t1509 hs (by show 1509 + 10 * 0 ≠ 1185 + 27 * s + 1; omega) (f8.2.2.1 K) (H6.fr2 r8 (fun x h1 _ => by simp; have : pcl 0 = 1509 := rfl; omega)) (fun h9 f9 H9 e9 => qI (q1 p i er gi h8 h9 f8 ?_ ?_ f9 H9 e9))
    · rw [e8, ri_ne' (by decide), e7, ri_same]
    · rw [e8, ri_same]
  refine okI 0 rfl rfl (s_X0_read_0 hp (ok_isSlot hp (fun s' hs' es => ⟨fun _ h2 e2 h3 e3 h4 e4 h5 e5 => ?_, fun w => absurd w (by decide)⟩) (fun w => absurd rfl (w s hs))))
  have f5 : Rz h h5 := by rw [e5]; exact Rz.put (by rw [e4]; exact Rz.put (by rw [e3]; exact Rz.put (by rw [e2]; exact Rz.rf.put (by omega)) (by omega)) (by omega)) (by omega)
  have T5 : TP h5 t len := ⟨by rw [e5, ri_ne' (by decide), e4, ri_ne' (by decide), e3, ri_ne' (by decide), e2, ri_ne' (by decide)]; exact T.1, T.2.1, fun i hi => by
    show h5.1 77 i = t i
    rw [f5.2.1 77 (by unfold Sv; omega)]; exact T.2.2 i hi⟩
  have P5 : PS h5 t len 0 0 := ⟨T5, by rw [e5, ri_ne' (by decide), e4, ri_ne' (by decide), e3, ri_ne' (by decide), e2, ri_same]; rfl, Nat.zero_le _, by rw [e5, ri_ne' (by decide), e4, ri_ne' (by decide), e3, ri_same]; rfl, by omega, by rw [e5, ri_ne' (by decide), e4, ri_same]⟩
  have z19 : ri h5 0 19 = nI 0 := by rw [e5, ri_same]; rfl
  have eg := gram_is t len
  refine (look_all (d := d + 47) hp (8 * len + 10)).1 0 0 h5 (gram t len) _ P5 eg (fun h6 G => ?_)
  have f6 : Rz h h6 := f5.tr (Rz.of_z G.1)
  have j57F : ∀ h7 pl, Rz h h7 → PF h7 1 (nI pl) → rdT t len = Sum.inr (1, pl) → W_X0_read g (d + 139) [.ref 0, .int (nI s)] (QI n Q) n 57 [some (.ref 0), some (.int (nI s))] [] h7 := by
    intro h7 pl f7 P7 er
    exact s_X0_read_57 hp ⟨fun _ => endF h7 1 pl f7 P7 er, fun w => absurd (P7.2.1.symm.trans w) P7.1⟩
  by_cases hb : (gram t len).1 = true
  · have P6 := G.2.1 hb
    refine ⟨fun w => absurd P6.2.2.2.2.2 w, fun _ => ok_nextP hp P6 (fun h7 f7 P7 => ⟨fun w => ?_, fun w => ?_⟩)⟩
    · have f17 : Rz h h7 := f6.tr (Rz.of_z f7)
      refine s_X0_read_57 hp ⟨fun w2 => absurd P7.2.2.2.2.2 w2, fun _ h8 e8 => ?_⟩
      have f8 : Fz h7 h8 := by rw [e8]; exact Fz.rf.put (by omega) (by omega)
      have V8 : VS h8 t len 0 0 := ⟨P7.1.fz f8, by rw [e8, ri_same]; rfl, Nat.zero_le _, by rw [e8, ri_ne' (by decide)]; exact P7.2.2.2.2.2, by rw [e8, ri_ne' (by decide), f7.2 19 (by omega), G.1.2 19 (by omega)]; exact z19, f8.1.kp (f17.2.2.1 K)⟩
      have egt : gp t len (8 * len + 10) 0 0 0 = some (true, (gram t len).2) := by rw [eg, ← hb]
      obtain ⟨r, vr, _⟩ := vp_tot t len (8 * len + 10) 0 0 0 _ itN egt
      have er : rdT t len = r := by unfold rdT; rw [cite_pos hb, cite_pos w, vr]; rfl
      refine (read_all hp hby (8 * len + 10) (d + 9)).1 0 0 0 h8 _ r _ V8 (by omega) (by omega) egt vr (fun h9 G9 => ?_)
      have f9 : Rz h h9 := (f17.tr (Rz.of_z f8)).tr (Rz.of_v G9.1)
      rcases r with ⟨p, i⟩ | ⟨c, pl⟩
      · exact endT h9 p i f9 G9.2.1.2.2.2.1 G9.2.2.1 G9.2.2.2 er
      · exact endF h9 c pl f9 G9.2.2.1 er
    · rw [P7.2.1]
      refine ok_flaw hp P7.2.2.2.2.2 (by decide) (fun h8 f8 _ P8 => j57F h8 _ ((f6.tr (Rz.of_z f7)).tr (Rz.of_z f8)) P8 (by unfold rdT; rw [cite_pos hb, cite_neg w]))
  · have hb' : (gram t len).1 = false := by simpa using hb
    have P6 := G.2.2 hb'
    refine ⟨fun _ => j57F h6 _ f6 P6 (by unfold rdT; rw [cite_neg hb]), fun w => absurd (P6.2.1.symm.trans w) P6.1⟩
end
