set_option maxRecDepth 100000
/-! TEXTS: the grammar -/
def skN (t : Nat → Int32) : Nat → Nat → Nat
  | 0, a => a
  | k + 1, a => if t a = 32 then skN t k (a + 1) else a
/-- behind spaces -/
def skp (t : Nat → Int32) (len a : Nat) : Nat := skN t (len - a) a
theorem skN_le (t : Nat → Int32) : ∀ k a, a ≤ skN t k a ∧ skN t k a ≤ a + k
  | 0, a => ⟨Nat.le_refl _, Nat.le_refl _⟩
  | k + 1, a => by
    show a ≤ (if t a = 32 then skN t k (a + 1) else a) ∧ (if t a = 32 then skN t k (a + 1) else a) ≤ a + (k + 1)
    have := skN_le t k (a + 1)
    split <;> omega
theorem skp_le {t : Nat → Int32} {len a : Nat} (h : a ≤ len) : a ≤ skp t len a ∧ skp t len a ≤ len := by
  have := skN_le t (len - a) a
  unfold skp
  omega
/-- the next character, -1 at the end -/
def nxc (t : Nat → Int32) (len a : Nat) : Int32 := if skp t len a < len then t (skp t len a) &&& 255 else -1
def gbind (r : Option (Bool × Nat)) (k : Nat → Option (Bool × Nat)) : Option (Bool × Nat) := match r with
  | none => none
  | some (false, p) => some (false, p)
  | some (true, p) => k p
def gwant (t : Nat → Int32) (len : Nat) (c : Int32) (a : Nat) : Option (Bool × Nat) := if nxc t len a = c then some (true, skp t len a + 1) else some (false, skp t len a)
def gopen (t : Nat → Int32) (len a op : Nat) : Option (Bool × Nat) := if nxc t len a = 40 then (if op = 20 then some (false, skp t len a) else some (true, skp t len a + 1)) else some (false, skp t len a)
def gdig (t : Nat → Int32) (fr : Nat) : Nat → Nat → Option (Bool × Nat)
  | 0, a => some (true, a)
  | k + 1, a => if ¬ t a < 48 ∧ ¬ 57 < t a then (if a - fr = 10 then some (false, a) else gdig t fr k (a + 1)) else some (true, a)
/-- the grammar: E (0), U (1), W (2), B (3), the rests of E (4) and of U (5); where it ends, or where the flaw is -/
def gp (t : Nat → Int32) (len : Nat) : Nat → Nat → Nat → Nat → Option (Bool × Nat)
  | 0, _, _, _ => none
  | F + 1, 0, a, op => gbind (gp t len F 1 (if nxc t len a = 45 then skp t len a + 1 else skp t len a) op) (fun p => gp t len F 4 p op)
  | F + 1, 1, a, op => gbind (gp t len F 2 a op) (fun p => gp t len F 5 p op)
  | F + 1, 2, a, op => gbind (gp t len F 3 a op) (fun p => if nxc t len (if nxc t len p = 33 then skp t len p + 1 else skp t len p) = 94 then gp t len F 3 (skp t len (if nxc t len p = 33 then skp t len p + 1 else skp t len p) + 1) op else some (true, skp t len (if nxc t len p = 33 then skp t len p + 1 else skp t len p)))
  | F + 1, 3, a, op => if ¬ nxc t len a < 48 ∧ ¬ 57 < nxc t len a then gdig t (skp t len a) (len - skp t len a) (skp t len a) else if nxc t len a = 110 ∨ nxc t len a = 107 then some (true, skp t len a + 1) else if nxc t len a = 67 then gbind (gopen t len (skp t len a + 1) op) (fun p => gbind (gp t len F 0 p (op + 1)) (fun p => gbind (gwant t len 44 p) (fun p => gbind (gp t len F 0 p (op + 1)) (fun p => gwant t len 41 p)))) else if nxc t len a = 40 then gbind (gopen t len (skp t len a) op) (fun p => gbind (gp t len F 0 p (op + 1)) (fun p => gwant t len 41 p)) else some (false, skp t len a)
  | F + 1, 4, a, op => if nxc t len a = 43 ∨ nxc t len a = 45 then gbind (gp t len F 1 (skp t len a + 1) op) (fun p => gp t len F 4 p op) else some (true, skp t len a)
  | F + 1, _, a, op => if nxc t len a = 42 ∨ nxc t len a = 47 then gbind (gp t len F 2 (skp t len a + 1) op) (fun p => gp t len F 5 p op) else some (true, skp t len a)
/-- the tape -/
def TP (h : Hp) (t : Nat → Int32) (len : Nat) : Prop := ri h 0 12 = nI len ∧ len ≤ 400 ∧ ∀ i, i < len → ri h 77 i = t i
/-- only places 13 to 16 of the house changed -/
def Fz (h h' : Hp) : Prop := Fr h h' [0] ∧ ∀ k, k < 13 ∨ 16 < k → ri h' 0 k = ri h 0 k
theorem Fz.rf {h : Hp} : Fz h h := ⟨Fr.rf, fun _ _ => rfl⟩
theorem Fz.tr {h h1 h2 : Hp} (f : Fz h h1) (e : Fz h1 h2) : Fz h h2 := ⟨f.1.tr e.1, fun k hk => (e.2 k hk).trans (f.2 k hk)⟩
theorem l0 : lay 0 = (0, 0, 80) := by decide +kernel
theorem Fz.put {h h1 : Hp} (f : Fz h h1) {k : Nat} {v : Int32} (h1' : 13 ≤ k) (h2 : k ≤ 16) : Fz h (wi h1 0 k v) := ⟨f.1.put (by simp) (okp_o l0 (Or.inr (by decide))), fun j hj => by rw [ri_ne' (by omega)]; exact f.2 j hj⟩
theorem TP.fz {h h' : Hp} {t : Nat → Int32} {len : Nat} (H : TP h t len) (f : Fz h h') : TP h' t len := ⟨by rw [f.2 12 (by omega)]; exact H.1, H.2.1, fun i hi => by rw [f.1.gi (by decide)]; exact H.2.2 i hi⟩
/-- at a place, without flaw -/
def PS (h : Hp) (t : Nat → Int32) (len a op : Nat) : Prop := TP h t len ∧ ri h 0 13 = nI a ∧ a ≤ len ∧ ri h 0 14 = nI op ∧ op ≤ 20 ∧ ri h 0 15 = 0
/-- with the flaw f at p -/
def PF (h : Hp) (f : Int32) (p : Int32) : Prop := f ≠ 0 ∧ ri h 0 15 = f ∧ ri h 0 16 = p
section
variable {g : GX} {d n : Nat} {h h' : Hp} {t : Nat → Int32} {len a op : Nat}
theorem w_next (hp : g.2.2.2.2 = true) {av : List Value} {Q : Int32 → Hp → Prop} : ∀ (k a : Nat) (h : Hp), a + k = len → TP h t len → ri h 0 13 = nI a → (∀ h', Fz h h' → (∀ j, j ≠ 13 → ri h' 0 j = ri h 0 j) → ri h' 0 13 = nI (skN t k a) → Q (if skN t k a < len then t (skN t k a) &&& 255 else -1) h') → W_X0_next g d av (QI n Q) n 0 [some (.ref 0)] [] h := by
  intro k
  induction k with
  | zero =>
    intro a h hk H Ha q
    have hl := H.2.1
    have q := q h Fz.rf (fun j _ => rfl) Ha
    have q : Q (if a < len then t a &&& 255 else -1) h := q
    rw [if_neg (by omega)] at q
    have last : W_X0_next g d av (QI n Q) n 38 [some (.ref 0)] [] h := by
      refine s_X0_next_38 hp ⟨fun _ => qI q, fun c => absurd ?_ c⟩
      rw [H.1, Ha]; simp (disch := omega) only [nI_addz, nI_1, nI_leI, nI_ltI, nI_eq, nI_tN, nI_inI]; omega
    refine s_X0_next_0 hp ⟨fun _ => last, fun c => absurd ?_ c⟩
    rw [H.1, Ha]; simp (disch := omega) only [nI_addz, nI_1, nI_leI, nI_ltI, nI_eq, nI_tN, nI_inI]; omega
  | succ k ih =>
    intro a h hk H Ha q
    have hl := H.2.1
    have hr : ri h 77 a = t a := H.2.2 a (by omega)
    refine s_X0_next_0 hp ?_
    rw [H.1, Ha, nI_leI (by omega) (by omega), nI_tN (by omega), hr]
    refine ⟨fun c => absurd c (by omega), fun _ => ⟨nI_inL (by omega) (by omega), fun c => ?_, fun c h1 e1 => ?_⟩⟩
    · refine s_X0_next_38 hp ?_
      rw [H.1, Ha, nI_leI (by omega) (by omega), nI_tN (by omega), hr]
      refine ⟨fun c2 => absurd c2 (by omega), fun _ => ⟨nI_inL (by omega) (by omega), qI ?_⟩⟩
      have e : skN t (k + 1) a = a := if_neg c
      have q := q h Fz.rf (fun j _ => rfl) (by rw [e]; exact Ha)
      rw [e, if_pos (by omega)] at q
      exact q
    · rw [nI_1] at e1
      have f1 : Fz h h1 := by rw [e1]; exact Fz.rf.put (by omega) (by omega)
      have e : skN t (k + 1) a = skN t k (a + 1) := if_pos c
      refine ih (a + 1) h1 (by omega) (H.fz f1) (by rw [e1, ri_same]) (fun h' k1 k2 k3 => ?_)
      rw [e] at q
      exact q h' (f1.tr k1) (fun j hj => by rw [k2 j hj, e1, ri_ne' hj]) k3
theorem ok_next (hp : g.2.2.2.2 = true) (H : TP h t len) (Ha : ri h 0 13 = nI a) (ha : a ≤ len) {Q : Int32 → Hp → Prop} (q : ∀ h', Fz h h' → (∀ j, j ≠ 13 → ri h' 0 j = ri h 0 j) → ri h' 0 13 = nI (skp t len a) → Q (nxc t len a) h') : CallI g m_X0_next d [.ref 0] n h Q :=
  okI 0 rfl rfl (w_next hp (len - a) a h (by omega) H Ha q)
theorem ok_nextP (hp : g.2.2.2.2 = true) (P : PS h t len a op) {Q : Int32 → Hp → Prop} (q : ∀ h', Fz h h' → PS h' t len (skp t len a) op → Q (nxc t len a) h') : CallI g m_X0_next d [.ref 0] n h Q :=
  ok_next hp P.1 P.2.1 P.2.2.1 (fun h' k1 k2 k3 => q h' k1 ⟨P.1.fz k1, k3, (skp_le P.2.2.1).2, by rw [k2 14 (by decide)]; exact P.2.2.2.1, P.2.2.2.2.1, by rw [k2 15 (by decide)]; exact P.2.2.2.2.2⟩)
theorem ok_isNext (hp : g.2.2.2.2 = true) (P : PS h t len a op) {c : Int32} {Q : Int32 → Hp → Prop} (q1 : nxc t len a = c → ∀ h', Fz h h' → PS h' t len (skp t len a) op → Q 1 h') (q0 : nxc t len a ≠ c → ∀ h', Fz h h' → PS h' t len (skp t len a) op → Q 0 h') : CallI g m_X0_isNext (d + 1) [.ref 0, .int c] n h Q :=
  okI 0 rfl rfl (s_X0_isNext_0 hp ⟨fun c' => absurd P.2.2.2.2.2 c', fun _ => ok_nextP hp P (fun h' k1 k2 => ⟨fun c' => qI (q0 c' h' k1 k2), fun c' => qI (q1 c' h' k1 k2)⟩)⟩)
theorem ok_isNextF (hp : g.2.2.2.2 = true) {f p : Int32} (P : PF h f p) {c : Int32} {Q : Int32 → Hp → Prop} (q0 : Q 0 h) : CallI g m_X0_isNext (d + 1) [.ref 0, .int c] n h Q :=
  okI 0 rfl rfl (s_X0_isNext_0 hp ⟨fun _ => qI q0, fun c' => absurd (P.2.1.symm.trans c') P.1⟩)
theorem ok_flaw (hp : g.2.2.2.2 = true) (h0 : ri h 0 15 = 0) {c p : Int32} (hc : c ≠ 0) {Q : Hp → Prop} (q : ∀ h', Fz h h' → (∀ j, j ≠ 15 → j ≠ 16 → ri h' 0 j = ri h 0 j) → PF h' c p → Q h') : CallV g m_X0_flaw d [.ref 0, .int c, .int p] n h Q := by
  refine okV 0 rfl rfl (s_X0_flaw_0 hp ⟨fun c' => absurd h0 c', fun _ h1 e1 h2 e2 => qV (q h2 ?_ (fun j h1' h2' => ?_) ⟨hc, ?_, ?_⟩)⟩)
  · rw [e2]; exact Fz.put (by rw [e1]; exact Fz.rf.put (by omega) (by omega)) (by omega) (by omega)
  · rw [e2, ri_ne' h2', e1, ri_ne' h1']
  · rw [e2, ri_ne' (by decide), e1, ri_same]
  · rw [e2, ri_same]
theorem ok_flawF (hp : g.2.2.2.2 = true) {f p : Int32} (P : PF h f p) {c w : Int32} {Q : Hp → Prop} (q : Q h) : CallV g m_X0_flaw d [.ref 0, .int c, .int w] n h Q :=
  okV 0 rfl rfl (s_X0_flaw_0 hp ⟨fun _ => qV q, fun c' => absurd (P.2.1.symm.trans c') P.1⟩)
theorem PS.nx {c : Int32} (P : PS h t len a op) (e : nxc t len a = c) (hc : c ≠ -1) : skp t len a < len := by
  apply Classical.byContradiction
  intro z
  unfold nxc at e
  rw [if_neg z] at e
  exact hc e.symm
theorem PS.adv {h1 : Hp} (P : PS h t len a op) (hl : a < len) (e : h1 = wi h 0 13 (ri h 0 13 + 1)) : PS h1 t len (a + 1) op ∧ Fz h h1 := by
  have f1 : Fz h h1 := by rw [e]; exact Fz.rf.put (by omega) (by omega)
  have e2 : h1 = wi h 0 13 (nI (a + 1)) := by rw [e, P.2.1, nI_1]
  exact ⟨⟨P.1.fz f1, by rw [e2, ri_same], hl, by rw [e2, ri_ne' (by decide)]; exact P.2.2.2.1, P.2.2.2.2.1, by rw [e2, ri_ne' (by decide)]; exact P.2.2.2.2.2⟩, f1⟩
/-- what a part of the grammar leaves -/
def Gp (h h' : Hp) (t : Nat → Int32) (len op : Nat) (r : Bool × Nat) : Prop := Fz h h' ∧ (r.1 = true → PS h' t len r.2 op) ∧ (r.1 = false → PF h' 1 (nI r.2))
theorem ok_want (hp : g.2.2.2.2 = true) (P : PS h t len a op) {c : Int32} (hc : c ≠ -1) {r : Bool × Nat} (hr : gwant t len c a = some r) {Q : Hp → Prop} (q : ∀ h', Gp h h' t len op r → Q h') : CallV g m_X0_want (d + 2) [.ref 0, .int c] n h Q := by
  unfold gwant at hr
  refine okV 0 rfl rfl (s_X0_want_0 hp (ok_isNext hp P (fun e h1 k1 k2 => ⟨fun w => absurd w (by decide), fun _ h3 e3 => qV (q h3 ?_)⟩) (fun e h1 k1 k2 => ⟨fun _ => ?_, fun w => absurd rfl w⟩)))
  · rw [if_pos e] at hr
    injection hr with hr
    have hl := P.nx e hc
    have := k2.adv hl e3
    rw [← hr]
    exact ⟨k1.tr this.2, fun _ => this.1, fun w => Bool.noConfusion (show true = false from w)⟩
  · rw [if_neg e] at hr
    injection hr with hr
    rw [k2.2.1]
    refine ok_flaw hp k2.2.2.2.2.2 (by decide) (fun h2 f2 _ P2 => qV (q h2 ?_))
    rw [← hr]
    exact ⟨k1.tr f2, fun w => Bool.noConfusion (show false = true from w), fun _ => P2⟩
theorem ok_wantF (hp : g.2.2.2.2 = true) {f p : Int32} (P : PF h f p) {c : Int32} {Q : Hp → Prop} (q : Q h) : CallV g m_X0_want (d + 2) [.ref 0, .int c] n h Q :=
  okV 0 rfl rfl (s_X0_want_0 hp (ok_isNextF hp P ⟨fun _ => ok_flawF hp P (qV q), fun w => absurd rfl w⟩))
theorem PF.set14 {f p v : Int32} (P : PF h f p) : PF (wi h 0 14 v) f p := ⟨P.1, by rw [ri_ne' (by decide)]; exact P.2.1, by rw [ri_ne' (by decide)]; exact P.2.2⟩
theorem ok_open27F (hp : g.2.2.2.2 = true) {av : List Value} {f p : Int32} (P : PF h f p) {Q : Hp → Prop} (q : ∀ h', Fz h h' → PF h' f p → Q h') : W_X0_open g (d + 2) av (QV n Q) n 27 [some (.ref 0)] [] h :=
  s_X0_open_27 hp (ok_wantF hp P (fun h1 e1 => qV (q h1 (by rw [e1]; exact Fz.rf.put (by omega) (by omega)) (by rw [e1]; exact P.set14))))
theorem ok_openP (hp : g.2.2.2.2 = true) (P : PS h t len a op) {r : Bool × Nat} (hr : gopen t len a op = some r) {Q : Hp → Prop} (q : ∀ h', Fz h h' → (r.1 = true → PS h' t len r.2 (op + 1)) → (r.1 = false → PF h' 1 (nI r.2)) → Q h') : CallV g m_X0_open (d + 3) [.ref 0] n h Q := by
  unfold gopen at hr
  -- a '(' is wanted
  have wnt : ∀ h1, Fz h h1 → PS h1 t len (skp t len a) op → (nxc t len a = 40 → op ≠ 20) → W_X0_open g (d + 2) [.ref 0] (QV n Q) n 27 [some (.ref 0)] [] h1 := by
    intro h1 k1 k2 hne
    have hsk : skp t len (skp t len a) = skp t len a := by
      unfold skp
      have gen : ∀ k b, skN t (k - (skN t k b - b)) (skN t k b) = skN t k b := by
        intro k
        induction k with
        | zero => intro b; simp [skN]
        | succ k ih =>
          intro b
          show skN t (k + 1 - ((if t b = 32 then skN t k (b + 1) else b) - b)) (if t b = 32 then skN t k (b + 1) else b) = (if t b = 32 then skN t k (b + 1) else b)
          by_cases e : t b = 32
          · rw [if_pos e]
            have h3 := skN_le t k (b + 1)
            have h4 := ih (b + 1)
            rw [show k + 1 - (skN t k (b + 1) - b) = k - (skN t k (b + 1) - (b + 1)) by omega]
            exact h4
          · rw [if_neg e, Nat.sub_self]
            show (if t b = 32 then skN t k (b + 1) else b) = b
            rw [if_neg e]
      have h5 := gen (len - a) a
      have h6 := skN_le t (len - a) a
      rw [show len - skN t (len - a) a = len - a - (skN t (len - a) a - a) by omega]
      exact h5
    have hnx : nxc t len (skp t len a) = nxc t len a := by unfold nxc; rw [hsk]
    obtain ⟨r2, er2⟩ : ∃ r2, gwant t len 40 (skp t len a) = some r2 := by unfold gwant; split <;> exact ⟨_, rfl⟩
    refine s_X0_open_27 hp (ok_want hp k2 (by decide) er2 (fun h2 G2 h3 e3 => qV ?_))
    have f3 : Fz h h3 := by rw [e3]; exact (k1.tr G2.1).put (by omega) (by omega)
    unfold gwant at er2
    rw [hnx, hsk] at er2
    by_cases e : nxc t len a = 40
    · rw [if_pos e] at er2 hr
      rw [if_neg (hne e)] at hr
      injection er2 with er2
      injection hr with hr
      have hop := hne e
      have P2 := G2.2.1 (by rw [← er2])
      rw [← er2] at P2
      rw [← hr] at q
      refine q h3 f3 (fun _ => ⟨P.1.fz f3, by rw [e3, ri_ne' (by decide)]; exact P2.2.1, P2.2.2.1, by rw [e3, ri_same, P2.2.2.2.1, nI_1], by have := P.2.2.2.2.1; omega, by rw [e3, ri_ne' (by decide)]; exact P2.2.2.2.2.2⟩) (fun w => Bool.noConfusion (show true = false from w))
    · rw [if_neg e] at er2 hr
      injection er2 with er2
      injection hr with hr
      have P2 := G2.2.2 (by rw [← er2])
      rw [← er2] at P2
      rw [← hr] at q
      exact q h3 f3 (fun w => Bool.noConfusion (show false = true from w)) (fun _ => by rw [e3]; exact P2.set14)
  refine okV 0 rfl rfl (s_X0_open_0 hp (ok_isNext hp P (fun e h1 k1 k2 => ⟨fun w => absurd w (by decide), fun _ => ?_⟩) (fun e h1 k1 k2 => ⟨fun _ => wnt h1 k1 k2 (fun w => absurd w e), fun w => absurd rfl w⟩)))
  have hop := P.2.2.2.2.1
  have e20 : ri h1 0 14 = (20 : Int32) ↔ op = 20 := by rw [k2.2.2.2.1, show (20 : Int32) = nI 20 from rfl]; simp (disch := omega) only [nI_z, z0, z1, z2, zm1, zI_add, zI_sub, zI_neg, zI_mul, zI_le, zI_lt, zI_eq, zI_tN, zI_inI]; omega
  rw [e20]
  refine ⟨fun w => wnt h1 k1 k2 (fun _ => w), fun w => ?_⟩
  rw [k2.2.1]
  refine ok_flaw hp k2.2.2.2.2.2 (by decide) (fun h2 f2 _ P2 => ok_open27F hp P2 (fun h3 f3 P3 => ?_))
  rw [if_pos e, if_pos w] at hr
  injection hr with hr
  rw [← hr] at q
  exact q h3 ((k1.tr f2).tr f3) (fun w => Bool.noConfusion (show false = true from w)) (fun _ => P3)
theorem ok_openF (hp : g.2.2.2.2 = true) {f p : Int32} (P : PF h f p) {Q : Hp → Prop} (q : ∀ h', Fz h h' → PF h' f p → Q h') : CallV g m_X0_open (d + 3) [.ref 0] n h Q :=
  okV 0 rfl rfl (s_X0_open_0 hp (ok_isNextF hp P ⟨fun _ => ok_open27F hp P q, fun w => absurd rfl w⟩))
/-- with a flaw nothing goes on -/
theorem ok_lookBF (hp : g.2.2.2.2 = true) {f p : Int32} (P : PF h f p) {Q : Hp → Prop} (q : Q h) : CallV g m_X0_lookB (d + 4) [.ref 0] n h Q := by
  refine okV 2 rfl rfl (s_X0_lookB_0 hp ⟨fun _ => s_X0_lookB_15 hp ⟨fun _ => ?_, fun c => absurd (by decide) c⟩, fun c => absurd (P.2.1.symm.trans c) P.1⟩)
  refine s_X0_lookB_109 hp ⟨fun c => absurd c (by decide), fun _ => ⟨fun _ => ⟨fun _ => ⟨fun _ => ok_flawF hp P (qV q), fun c => absurd c (by decide)⟩, fun c => absurd c (by decide)⟩, fun c => absurd c (by decide)⟩⟩
theorem ok_lookWF (hp : g.2.2.2.2 = true) {f p : Int32} (P : PF h f p) {Q : Hp → Prop} (q : Q h) : CallV g m_X0_lookW (d + 5) [.ref 0] n h Q :=
  okV 0 rfl rfl (s_X0_lookW_0 hp (ok_lookBF hp P (ok_isNextF hp P ⟨fun _ => s_X0_lookW_23 hp (ok_isNextF hp P ⟨fun _ => qV q, fun w => absurd rfl w⟩), fun w => absurd rfl w⟩)))
theorem ok_lookUF (hp : g.2.2.2.2 = true) {f p : Int32} (P : PF h f p) {Q : Hp → Prop} (q : Q h) : CallV g m_X0_lookU (d + 6) [.ref 0] n h Q :=
  okV 0 rfl rfl (s_X0_lookU_0 hp (ok_lookWF hp P (s_X0_lookU_4 hp (ok_isNextF hp P ⟨fun w => absurd rfl w, fun _ => ok_isNextF hp P ⟨fun _ => qV q, fun w => absurd rfl w⟩⟩))))
theorem ok_lookEF (hp : g.2.2.2.2 = true) {f p : Int32} (P : PF h f p) {Q : Hp → Prop} (q : Q h) : CallV g m_X0_lookE (d + 7) [.ref 0] n h Q :=
  okV 0 rfl rfl (s_X0_lookE_0 hp (ok_isNextF hp P ⟨fun _ => s_X0_lookE_19 hp (ok_lookUF hp P (s_X0_lookE_23 hp (ok_isNextF hp P ⟨fun w => absurd rfl w, fun _ => ok_isNextF hp P ⟨fun _ => qV q, fun w => absurd rfl w⟩⟩))), fun w => absurd rfl w⟩))
end
