set_option maxRecDepth 100000
/-! TEXTS: the grammar of the house -/
theorem skp_skp {t : Nat → Int32} {len a : Nat} : skp t len (skp t len a) = skp t len a := by
  unfold skp
  have gen : ∀ k b, skN t (k - (skN t k b - b)) (skN t k b) = skN t k b := by
    intro k
    induction k with
    | zero => intro b; simp [skN]
    | succ k ih =>
      intro b
      show skN t (k + 1 - ((if t b = 32 then skN t k (b + 1) else b) - b)) (if t b = 32 then skN t k (b + 1) else b) = (if t b = 32 then skN t k (b + 1) else b)
      by_cases e : t b = 32
      · rw [if_pos e]
        have h3 := skN_le t k (b + 1)
        have h4 := ih (b + 1)
        rw [show k + 1 - (skN t k (b + 1) - b) = k - (skN t k (b + 1) - (b + 1)) by omega]
        exact h4
      · rw [if_neg e, Nat.sub_self]
        show (if t b = 32 then skN t k (b + 1) else b) = b
        rw [if_neg e]
  have h5 := gen (len - a) a
  have h6 := skN_le t (len - a) a
  rw [show len - skN t (len - a) a = len - a - (skN t (len - a) a - a) by omega]
  exact h5
theorem nxc_skp {t : Nat → Int32} {len a : Nat} : nxc t len (skp t len a) = nxc t len a := by
  unfold nxc
  rw [skp_skp]
theorem gbind_some {x : Option (Bool × Nat)} {k : Nat → Option (Bool × Nat)} {s : Bool × Nat} (h : gbind x k = some s) : (∃ p, x = some (false, p) ∧ s = (false, p)) ∨ ∃ p, x = some (true, p) ∧ k p = some s := by
  unfold gbind at h
  split at h
  · cases h
  · injection h with h
    exact Or.inl ⟨_, rfl, h.symm⟩
  · exact Or.inr ⟨_, rfl, h⟩
section
variable {g : GX} {d n : Nat} {h h' : Hp} {t : Nat → Int32} {len a op : Nat}
theorem Gp.tr {h1 h2 : Hp} {r : Bool × Nat} (f : Fz h h1) (G : Gp h1 h2 t len op r) : Gp h h2 t len op r := ⟨f.tr G.1, G.2⟩
theorem Gp.ok {p : Nat} (G : Gp h h' t len op (true, p)) : PS h' t len p op := G.2.1 rfl
theorem Gp.bad {p : Nat} (G : Gp h h' t len op (false, p)) : PF h' 1 (nI p) := G.2.2 rfl
theorem Gp.mkF {p : Nat} (f : Fz h h') (P : PF h' 1 (nI p)) : Gp h h' t len op (false, p) := ⟨f, fun w => Bool.noConfusion (show false = true from w), fun _ => P⟩
theorem Gp.mkT {p : Nat} (f : Fz h h') (P : PS h' t len p op) : Gp h h' t len op (true, p) := ⟨f, fun _ => P, fun w => Bool.noConfusion (show true = false from w)⟩
theorem w_dig (hp : g.2.2.2.2 = true) {av : List Value} {fr : Nat} {Q : Hp → Prop} : ∀ (k a : Nat) (h : Hp) (r : Bool × Nat), a + k = len → fr ≤ a → PS h t len a op → gdig t fr k a = some r → (∀ h', Gp h h' t len op r → Q h') → W_X0_lookB g d av (QV n Q) n 33 [some (.ref 0), none, some (.int (nI fr))] [] h := by
  intro k
  induction k with
  | zero =>
    intro a h r hk hf P hr q
    have hl := P.1.2.1
    have hr : some (true, a) = some r := hr
    injection hr with hr
    refine s_X0_lookB_33 hp ⟨fun _ => qV (q h (by rw [← hr]; exact Gp.mkT Fz.rf P)), fun c => absurd ?_ c⟩
    rw [P.1.1, P.2.1]; simp (disch := omega) only [nI_addz, nI_1, nI_leI, nI_ltI, nI_eq, nI_tN, nI_inI]; omega
  | succ k ih =>
    intro a h r hk hf P hr q
    have hl := P.1.2.1
    have hr : (if ¬ t a < 48 ∧ ¬ 57 < t a then (if a - fr = 10 then some (false, a) else gdig t fr k (a + 1)) else some (true, a)) = some r := hr
    have stop : ¬ (¬ t a < 48 ∧ ¬ 57 < t a) → Q h := by
      intro z
      rw [if_neg z] at hr
      injection hr with hr
      exact q h (by rw [← hr]; exact Gp.mkT Fz.rf P)
    refine s_X0_lookB_33 hp ?_
    rw [P.1.1, P.2.1, nI_leI (by omega) (by omega), nI_tN (by omega), P.1.2.2 a (by omega)]
    refine ⟨fun c => absurd c (by omega), fun _ => ⟨nI_inL (by omega) (by omega), fun c => qV (stop (fun z => z.1 c)), fun c => ⟨nI_inL (by omega) (by omega), fun c2 => qV (stop (fun z => z.2 c2)), fun c2 => ?_⟩⟩⟩
    rw [if_pos ⟨c, c2⟩] at hr
    have e10 : nI a - nI fr = (10 : Int32) ↔ a - fr = 10 := by rw [pk_sub hf, show (10 : Int32) = nI 10 from rfl]; simp (disch := omega) only [nI_z, z0, z1, z2, zm1, zI_add, zI_sub, zI_neg, zI_mul, zI_le, zI_lt, zI_eq, zI_tN, zI_inI]; omega
    rw [e10]
    refine ⟨fun c3 h1 e1 => ?_, fun c3 => ?_⟩
    · rw [if_neg c3] at hr
      rw [← P.2.1] at e1
      have := P.adv (by omega) e1
      exact ih (a + 1) h1 r (by omega) (by omega) this.1 hr (fun h' G => q h' (G.tr this.2))
    · rw [if_pos c3] at hr
      injection hr with hr
      refine ok_flaw hp P.2.2.2.2.2 (by decide) (fun h2 f2 _ P2 => qV (q h2 ?_))
      rw [← hr]; exact Gp.mkF f2 P2
/-- all parts, with fuel F -/
def LK (g : GX) (d n : Nat) (t : Nat → Int32) (len F : Nat) : Prop :=
  (∀ a op h r (Q : Hp → Prop), PS h t len a op → gp t len F 0 a op = some r → (∀ h', Gp h h' t len op r → Q h') → CallV g m_X0_lookE (d + 4 * (20 - op) + 12) [.ref 0] n h Q) ∧
  (∀ a op h r (Q : Hp → Prop), PS h t len a op → gp t len F 1 a op = some r → (∀ h', Gp h h' t len op r → Q h') → CallV g m_X0_lookU (d + 4 * (20 - op) + 11) [.ref 0] n h Q) ∧
  (∀ a op h r (Q : Hp → Prop), PS h t len a op → gp t len F 2 a op = some r → (∀ h', Gp h h' t len op r → Q h') → CallV g m_X0_lookW (d + 4 * (20 - op) + 10) [.ref 0] n h Q) ∧
  (∀ a op h r (Q : Hp → Prop), PS h t len a op → gp t len F 3 a op = some r → (∀ h', Gp h h' t len op r → Q h') → CallV g m_X0_lookB (d + 4 * (20 - op) + 9) [.ref 0] n h Q) ∧
  (∀ a op h r (Q : Hp → Prop) av, PS h t len a op → gp t len F 4 a op = some r → (∀ h', Gp h h' t len op r → Q h') → W_X0_lookE g (d + 4 * (20 - op) + 11) av (QV n Q) n 23 [some (.ref 0)] [] h) ∧
  (∀ a op h r (Q : Hp → Prop) av, PS h t len a op → gp t len F 5 a op = some r → (∀ h', Gp h h' t len op r → Q h') → W_X0_lookU g (d + 4 * (20 - op) + 10) av (QV n Q) n 4 [some (.ref 0)] [] h)
theorem look_all (hp : g.2.2.2.2 = true) : ∀ F, LK g d n t len F := by
  intro F
  induction F with
  | zero =>
    refine ⟨?_, ?_, ?_, ?_, ?_, ?_⟩ <;> (intros; rename_i e _; cases e)
  | succ F ih =>
    obtain ⟨iE, iU, iW, iB, i4, i5⟩ := ih
    refine ⟨?_, ?_, ?_, ?_, ?_, ?_⟩
    · intro a op h r Q P hr q
      have hr : gbind (gp t len F 1 (if nxc t len a = 45 then skp t len a + 1 else skp t len a) op) (fun p => gp t len F 4 p op) = some r := hr
      have go : ∀ h1 p, Fz h h1 → PS h1 t len p op → p = (if nxc t len a = 45 then skp t len a + 1 else skp t len a) → W_X0_lookE g (d + 4 * (20 - op) + 11) [.ref 0] (QV n Q) n 19 [some (.ref 0)] [] h1 := by
        intro h1 p f1 P1 ep
        rw [← ep] at hr
        refine s_X0_lookE_19 hp ?_
        rcases gbind_some hr with ⟨p1, e1, e2⟩ | ⟨p1, e1, e2⟩
        · refine iU p op h1 _ _ P1 e1 (fun h2 G => ?_)
          exact s_X0_lookE_23 hp (ok_isNextF hp G.bad ⟨fun w => absurd rfl w, fun _ => ok_isNextF hp G.bad ⟨fun _ => qV (q h2 (by rw [e2]; exact G.tr f1)), fun w => absurd rfl w⟩⟩)
        · refine iU p op h1 _ _ P1 e1 (fun h2 G => ?_)
          exact i4 p1 op h2 r Q _ G.ok e2 (fun h' G' => q h' (G'.tr (f1.tr G.1)))
      refine okV 0 rfl rfl (s_X0_lookE_0 hp (ok_isNext hp P (fun e h1 k1 k2 => ⟨fun w => absurd w (by decide), fun _ h2 e2 => ?_⟩) (fun e h1 k1 k2 => ⟨fun _ => go h1 _ k1 k2 (by rw [if_neg e]), fun w => absurd rfl w⟩)))
      have := k2.adv (P.nx e (by decide)) e2
      exact go h2 _ (k1.tr this.2) this.1 (by rw [if_pos e])
    · intro a op h r Q P hr q
      have hr : gbind (gp t len F 2 a op) (fun p => gp t len F 5 p op) = some r := hr
      refine okV 0 rfl rfl (s_X0_lookU_0 hp ?_)
      rcases gbind_some hr with ⟨p1, e1, e2⟩ | ⟨p1, e1, e2⟩
      · refine iW a op h _ _ P e1 (fun h2 G => ?_)
        exact s_X0_lookU_4 hp (ok_isNextF hp G.bad ⟨fun w => absurd rfl w, fun _ => ok_isNextF hp G.bad ⟨fun _ => qV (q h2 (by rw [e2]; exact G)), fun w => absurd rfl w⟩⟩)
      · refine iW a op h _ _ P e1 (fun h2 G => ?_)
        exact i5 p1 op h2 r Q _ G.ok e2 (fun h' G' => q h' (G'.tr G.1))
    · intro a op h r Q P hr q
      have hr : gbind (gp t len F 3 a op) (fun p => if nxc t len (if nxc t len p = 33 then skp t len p + 1 else skp t len p) = 94 then gp t len F 3 (skp t len (if nxc t len p = 33 then skp t len p + 1 else skp t len p) + 1) op else some (true, skp t len (if nxc t len p = 33 then skp t len p + 1 else skp t len p))) = some r := hr
      refine okV 0 rfl rfl (s_X0_lookW_0 hp ?_)
      rcases gbind_some hr with ⟨p1, e1, e2⟩ | ⟨p1, e1, e2⟩
      · refine iB a op h _ _ P e1 (fun h2 G => ?_)
        exact ok_isNextF hp G.bad ⟨fun _ => s_X0_lookW_23 hp (ok_isNextF hp G.bad ⟨fun _ => qV (q h2 (by rw [e2]; exact G)), fun w => absurd rfl w⟩), fun w => absurd rfl w⟩
      · refine iB a op h _ _ P e1 (fun h2 G => ?_)
        have go : ∀ h3 p, Fz h h3 → PS h3 t len p op → p = (if nxc t len p1 = 33 then skp t len p1 + 1 else skp t len p1) → W_X0_lookW g (d + 4 * (20 - op) + 9) [.ref 0] (QV n Q) n 23 [some (.ref 0)] [] h3 := by
          intro h3 p f3 P3 ep
          rw [← ep] at e2
          refine s_X0_lookW_23 hp (ok_isNext hp P3 (fun e h4 k1 k2 => ⟨fun w => absurd w (by decide), fun _ h5 e5 => ?_⟩) (fun e h4 k1 k2 => ⟨fun _ => qV (q h4 ?_), fun w => absurd rfl w⟩))
          · rw [if_pos e] at e2
            have := k2.adv (P3.nx e (by decide)) e5
            exact iB _ op h5 r _ this.1 e2 (fun h' G' => qV (q h' (G'.tr ((f3.tr k1).tr this.2))))
          · rw [if_neg e] at e2
            injection e2 with e2
            rw [← e2]; exact Gp.mkT (f3.tr k1) k2
        refine ok_isNext hp G.ok (fun e h3 k1 k2 => ⟨fun w => absurd w (by decide), fun _ h4 e4 => ?_⟩) (fun e h3 k1 k2 => ⟨fun _ => go h3 _ (G.1.tr k1) k2 (by rw [if_neg e]), fun w => absurd rfl w⟩)
        have := k2.adv (G.ok.nx e (by decide)) e4
        exact go h4 _ ((G.1.tr k1).tr this.2) this.1 (by rw [if_pos e])
    · intro a op h r Q P hr q
      have hop := P.2.2.2.2.1
      have hr : (if ¬ nxc t len a < 48 ∧ ¬ 57 < nxc t len a then gdig t (skp t len a) (len - skp t len a) (skp t len a) else if nxc t len a = 110 ∨ nxc t len a = 107 then some (true, skp t len a + 1) else if nxc t len a = 67 then gbind (gopen t len (skp t len a + 1) op) (fun p => gbind (gp t len F 0 p (op + 1)) (fun p => gbind (gwant t len 44 p) (fun p => gbind (gp t len F 0 p (op + 1)) (fun p => gwant t len 41 p)))) else if nxc t len a = 40 then gbind (gopen t len (skp t len a) op) (fun p => gbind (gp t len F 0 p (op + 1)) (fun p => gwant t len 41 p)) else some (false, skp t len a)) = some r := hr
      refine okV 2 rfl rfl (s_X0_lookB_0 hp ⟨fun c => absurd P.2.2.2.2.2 c, fun _ => ok_nextP hp P (fun h1 f1 P1 => ?_)⟩)
      -- behind the digits
      have cl : ∀ h2 h3, h3 = wi h2 0 14 (ri h2 0 14 - 1) → Fz h2 h3 := fun h2 h3 e => by rw [e]; exact Fz.rf.put (by omega) (by omega)
      have clP : ∀ h2 h3 p, h3 = wi h2 0 14 (ri h2 0 14 - 1) → PS h2 t len p (op + 1) → PS h3 t len p op := by
        intro h2 h3 p e P2
        have f := cl h2 h3 e
        rw [e]
        exact ⟨P2.1.fz (by rw [← e]; exact f), by rw [ri_ne' (by decide)]; exact P2.2.1, P2.2.2.1, by rw [ri_same, P2.2.2.2.1, nI_sub1 (by omega), Nat.add_sub_cancel], hop, by rw [ri_ne' (by decide)]; exact P2.2.2.2.2.2⟩
      have clF : ∀ h2 h3 p, h3 = wi h2 0 14 (ri h2 0 14 - 1) → PF h2 1 p → PF h3 1 p := fun h2 h3 p e P2 => by rw [e]; exact P2.set14
      have eD : d + 4 * (20 - op) + 8 = d + 4 * (20 - op) + 8 := rfl
      have iE' : ∀ a h r (Q : Hp → Prop), op + 1 ≤ 20 → PS h t len a (op + 1) → gp t len F 0 a (op + 1) = some r → (∀ h', Gp h h' t len (op + 1) r → Q h') → CallV g m_X0_lookE (d + 4 * (20 - op) + 8) [.ref 0] n h Q := by
        intro a h r Q hle P hr q
        have := iE a (op + 1) h r Q P hr q
        rw [show d + 4 * (20 - (op + 1)) + 12 = d + 4 * (20 - op) + 8 by omega] at this
        exact this
      have j109 : ¬ (¬ nxc t len a < 48 ∧ ¬ 57 < nxc t len a) → W_X0_lookB g (d + 4 * (20 - op) + 8) [.ref 0] (QV n Q) n 109 [some (.ref 0), some (.int (nxc t len a)), none] [] h1 := by
        intro z
        rw [if_neg z] at hr
        have letter : nxc t len a = 110 ∨ nxc t len a = 107 → W_X0_lookB g (d + 4 * (20 - op) + 8) [.ref 0] (QV n Q) n 121 [some (.ref 0), none, none] [] h1 := by
          intro e
          rw [if_pos e] at hr
          injection hr with hr
          refine s_X0_lookB_121 hp (fun h2 e2 => qV (q h2 ?_))
          have hlt : skp t len a < len := e.elim (fun e => P.nx e (by decide)) (fun e => P.nx e (by decide))
          have := P1.adv hlt e2
          rw [← hr]; exact Gp.mkT (f1.tr this.2) this.1
        refine s_X0_lookB_109 hp ⟨fun e => letter (Or.inl e), fun e => ⟨fun e2 => ⟨fun e3 => ⟨fun e4 => ?_, fun e4 => ?_⟩, fun e3 h2 e4 => ?_⟩, fun e2 => letter (Or.inr e2)⟩⟩
        · rw [if_neg (fun w => w.elim e e2), if_neg e3, if_neg e4] at hr
          injection hr with hr
          rw [P1.2.1]
          refine ok_flaw hp P1.2.2.2.2.2 (by decide) (fun h2 f2 _ P2 => qV (q h2 ?_))
          rw [← hr]; exact Gp.mkF (f1.tr f2) P2
        · rw [if_neg (fun w => w.elim e e2), if_neg e3, if_pos e4] at hr
          rcases gbind_some hr with ⟨p1, g1, g2⟩ | ⟨p1, g1, g2⟩
          · refine ok_openP hp P1 g1 (fun h2 f2 _ P2 => ?_)
            have P2 := P2 rfl
            refine ok_lookEF hp P2 (ok_wantF hp P2 (fun h3 e5 => qV (q h3 ?_)))
            rw [g2]; exact Gp.mkF ((f1.tr f2).tr (cl _ _ e5)) (clF _ _ _ e5 P2)
          · refine ok_openP hp P1 g1 (fun h2 f2 P2 _ => ?_)
            have P2 := P2 rfl
            rcases gbind_some g2 with ⟨p2, g3, g4⟩ | ⟨p2, g3, g4⟩
            · refine iE' p1 h2 _ _ P2.2.2.2.2.1 P2 g3 (fun h3 G3 => ok_wantF hp G3.bad (fun h4 e5 => qV (q h4 ?_)))
              rw [g4]; exact Gp.mkF (((f1.tr f2).tr G3.1).tr (cl _ _ e5)) (clF _ _ _ e5 G3.bad)
            · refine iE' p1 h2 _ _ P2.2.2.2.2.1 P2 g3 (fun h3 G3 => ok_want hp G3.ok (by decide) g4 (fun h4 G4 h5 e5 => qV (q h5 ?_)))
              exact ⟨(((f1.tr f2).tr G3.1).tr G4.1).tr (cl _ _ e5), fun w => clP _ _ _ e5 (G4.2.1 w), fun w => clF _ _ _ e5 (G4.2.2 w)⟩
        · rw [if_neg (fun w => w.elim e e2), if_pos e3] at hr
          have A := P1.adv (P.nx e3 (by decide)) e4
          rcases gbind_some hr with ⟨p1, g1, g2⟩ | ⟨p1, g1, g2⟩
          · refine ok_openP hp A.1 g1 (fun h3 f3 _ P3 => ?_)
            have P3 := P3 rfl
            refine ok_lookEF hp P3 (ok_wantF hp P3 (ok_lookEF hp P3 (ok_wantF hp P3 (fun h4 e5 => qV (q h4 ?_)))))
            rw [g2]; exact Gp.mkF (((f1.tr A.2).tr f3).tr (cl _ _ e5)) (clF _ _ _ e5 P3)
          · refine ok_openP hp A.1 g1 (fun h3 f3 P3 _ => ?_)
            have P3 := P3 rfl
            rcases gbind_some g2 with ⟨p2, g3, g4⟩ | ⟨p2, g3, g4⟩
            · refine iE' p1 h3 _ _ P3.2.2.2.2.1 P3 g3 (fun h4 G4 => ok_wantF hp G4.bad (ok_lookEF hp G4.bad (ok_wantF hp G4.bad (fun h5 e5 => qV (q h5 ?_)))))
              rw [g4]; exact Gp.mkF ((((f1.tr A.2).tr f3).tr G4.1).tr (cl _ _ e5)) (clF _ _ _ e5 G4.bad)
            · refine iE' p1 h3 _ _ P3.2.2.2.2.1 P3 g3 (fun h4 G4 => ?_)
              rcases gbind_some g4 with ⟨p3, g5, g6⟩ | ⟨p3, g5, g6⟩
              · refine ok_want hp G4.ok (by decide) g5 (fun h5 G5 => ok_lookEF hp G5.bad (ok_wantF hp G5.bad (fun h6 e5 => qV (q h6 ?_))))
                rw [g6]; exact Gp.mkF (((((f1.tr A.2).tr f3).tr G4.1).tr G5.1).tr (cl _ _ e5)) (clF _ _ _ e5 G5.bad)
              · refine ok_want hp G4.ok (by decide) g5 (fun h5 G5 => ?_)
                rcases gbind_some g6 with ⟨p4, g7, g8⟩ | ⟨p4, g7, g8⟩
                · refine iE' p3 h5 _ _ P3.2.2.2.2.1 G5.ok g7 (fun h6 G6 => ok_wantF hp G6.bad (fun h7 e5 => qV (q h7 ?_)))
                  rw [g8]; exact Gp.mkF ((((((f1.tr A.2).tr f3).tr G4.1).tr G5.1).tr G6.1).tr (cl _ _ e5)) (clF _ _ _ e5 G6.bad)
                · refine iE' p3 h5 _ _ P3.2.2.2.2.1 G5.ok g7 (fun h6 G6 => ok_want hp G6.ok (by decide) g8 (fun h7 G7 h8 e5 => qV (q h8 ?_)))
                  exact ⟨((((((f1.tr A.2).tr f3).tr G4.1).tr G5.1).tr G6.1).tr G7.1).tr (cl _ _ e5), fun w => clP _ _ _ e5 (G7.2.1 w), fun w => clF _ _ _ e5 (G7.2.2 w)⟩
      refine s_X0_lookB_15 hp ⟨fun c => j109 (fun z => z.1 c), fun c => ⟨fun c2 => j109 (fun z => z.2 c2), fun c2 => ?_⟩⟩
      rw [if_pos ⟨c, c2⟩] at hr
      rw [P1.2.1]
      exact w_dig hp (len - skp t len a) (skp t len a) h1 r (by have := (skp_le (t := t) P.2.2.1).2; omega) (Nat.le_refl _) P1 hr (fun h' G => q h' (G.tr f1))
    · intro a op h r Q av P hr q
      have hr : (if nxc t len a = 43 ∨ nxc t len a = 45 then gbind (gp t len F 1 (skp t len a + 1) op) (fun p => gp t len F 4 p op) else some (true, skp t len a)) = some r := hr
      have go : (nxc t len a = 43 ∨ nxc t len a = 45) → ∀ h1, Fz h h1 → PS h1 t len (skp t len a) op → W_X0_lookE g (d + 4 * (20 - op) + 11) av (QV n Q) n 41 [some (.ref 0)] [] h1 := by
        intro e h1 f1 P1
        rw [if_pos e] at hr
        refine s_X0_lookE_41 hp (fun h2 e2 => ?_)
        have A := P1.adv (e.elim (fun e => P.nx e (by decide)) (fun e => P.nx e (by decide))) e2
        rcases gbind_some hr with ⟨p1, g1, g2⟩ | ⟨p1, g1, g2⟩
        · refine iU _ op h2 _ _ A.1 g1 (fun h3 G => ?_)
          exact s_X0_lookE_23 hp (ok_isNextF hp G.bad ⟨fun w => absurd rfl w, fun _ => ok_isNextF hp G.bad ⟨fun _ => qV (q h3 (by rw [g2]; exact G.tr (f1.tr A.2))), fun w => absurd rfl w⟩⟩)
        · refine iU _ op h2 _ _ A.1 g1 (fun h3 G => ?_)
          exact i4 p1 op h3 r Q _ G.ok g2 (fun h' G' => q h' (G'.tr ((f1.tr A.2).tr G.1)))
      refine s_X0_lookE_23 hp (ok_isNext hp P (fun e h1 k1 k2 => ⟨fun _ => go (Or.inl e) h1 k1 k2, fun w => absurd w (by decide)⟩) (fun e h1 k1 k2 => ⟨fun w => absurd rfl w, fun _ => ok_isNext hp k2 (fun e' h2 k3 k4 => ⟨fun w => absurd w (by decide), fun _ => go (Or.inr (by rw [nxc_skp] at e'; exact e')) h2 (k1.tr k3) (by rw [skp_skp] at k4; exact k4)⟩) (fun e' h2 k3 k4 => ⟨fun _ => qV (q h2 ?_), fun w => absurd rfl w⟩)⟩))
      rw [nxc_skp] at e'
      rw [if_neg (fun w => w.elim e e')] at hr
      injection hr with hr
      rw [skp_skp] at k4
      rw [← hr]; exact Gp.mkT (k1.tr k3) k4
    · intro a op h r Q av P hr q
      have hr : (if nxc t len a = 42 ∨ nxc t len a = 47 then gbind (gp t len F 2 (skp t len a + 1) op) (fun p => gp t len F 5 p op) else some (true, skp t len a)) = some r := hr
      have go : (nxc t len a = 42 ∨ nxc t len a = 47) → ∀ h1, Fz h h1 → PS h1 t len (skp t len a) op → W_X0_lookU g (d + 4 * (20 - op) + 10) av (QV n Q) n 22 [some (.ref 0)] [] h1 := by
        intro e h1 f1 P1
        rw [if_pos e] at hr
        refine s_X0_lookU_22 hp (fun h2 e2 => ?_)
        have A := P1.adv (e.elim (fun e => P.nx e (by decide)) (fun e => P.nx e (by decide))) e2
        rcases gbind_some hr with ⟨p1, g1, g2⟩ | ⟨p1, g1, g2⟩
        · refine iW _ op h2 _ _ A.1 g1 (fun h3 G => ?_)
          exact s_X0_lookU_4 hp (ok_isNextF hp G.bad ⟨fun w => absurd rfl w, fun _ => ok_isNextF hp G.bad ⟨fun _ => qV (q h3 (by rw [g2]; exact G.tr (f1.tr A.2))), fun w => absurd rfl w⟩⟩)
        · refine iW _ op h2 _ _ A.1 g1 (fun h3 G => ?_)
          exact i5 p1 op h3 r Q _ G.ok g2 (fun h' G' => q h' (G'.tr ((f1.tr A.2).tr G.1)))
      refine s_X0_lookU_4 hp (ok_isNext hp P (fun e h1 k1 k2 => ⟨fun _ => go (Or.inl e) h1 k1 k2, fun w => absurd w (by decide)⟩) (fun e h1 k1 k2 => ⟨fun w => absurd rfl w, fun _ => ok_isNext hp k2 (fun e' h2 k3 k4 => ⟨fun w => absurd w (by decide), fun _ => go (Or.inr (by rw [nxc_skp] at e'; exact e')) h2 (k1.tr k3) (by rw [skp_skp] at k4; exact k4)⟩) (fun e' h2 k3 k4 => ⟨fun _ => qV (q h2 ?_), fun w => absurd rfl w⟩)⟩))
      rw [nxc_skp] at e'
      rw [if_neg (fun w => w.elim e e')] at hr
      injection hr with hr
      rw [skp_skp] at k4
      rw [← hr]; exact Gp.mkT (k1.tr k3) k4
end
