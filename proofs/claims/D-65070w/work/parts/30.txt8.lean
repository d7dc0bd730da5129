set_option maxRecDepth 100000
/-! TEXTS: values in the house, the whole -/
theorem gbind_k {x : Option RV} {k : Nat → Itm → Option RV} {r r1 : RV} (hx : x = some r1) (h : sbind x k = some r) : (∃ f, r1 = Sum.inr f ∧ r = Sum.inr f) ∨ ∃ p i, r1 = Sum.inl (p, i) ∧ k p i = some r := by
  subst hx
  rcases r1 with ⟨p, i⟩ | f
  · exact Or.inr ⟨p, i, rfl, h⟩
  · have h : some (Sum.inr f) = some r := h
    injection h with h
    exact Or.inl ⟨f, rfl, h.symm⟩
theorem vout_k {r0 : VR} {pl : Nat} {k : Itm → Option RV} {r : RV} (h : vout r0 pl k = some r) : (∃ c, r0 = Sum.inr c ∧ r = Sum.inr (c, pl)) ∨ ∃ i, r0 = Sum.inl i ∧ k i = some r := by
  rcases r0 with i | c
  · exact Or.inr ⟨i, rfl, h⟩
  · have h : some (Sum.inr (c, pl)) = some r := h
    injection h with h
    exact Or.inl ⟨c, rfl, h.symm⟩
section
variable {g : GX} {n : Nat} {t : Nat → Int32} {len : Nat}
theorem VF.mono {h : Hp} {op op' c pl : Nat} (P : VF h t len op c pl) (ho : op' ≤ op) : VF h t len op' c pl := by
  obtain ⟨T, pf, a', ha, hb⟩ := P
  exact ⟨T, pf, a', ha, by omega⟩
theorem VF.of {h h' : Hp} {a op c pl s : Nat} (P : VS h t len a s) (hop : op ≤ 20) (T : TP h' t len) (pf : PF h' (nI c) (nI pl)) (e : ri h' 0 13 = ri h 0 13) : VF h' t len op c pl := ⟨T, pf, a, by rw [e]; exact P.2.1, by have := P.2.2.1; have := P.1.2.1; omega⟩
/-- all parts, with fuel F -/
def VK (g : GX) (n : Nat) (t : Nat → Int32) (len F : Nat) : Prop := ∀ d,
  (∀ a op s h p r (Q : Hp → Prop), VS h t len a s → op ≤ 20 → s ≤ 4 * op → gp t len F 0 a op = some (true, p) → vp t len F 0 a itN = some r → (∀ h', Vr h h' t len s op r → Q h') → CallV g m_X0_readE (d + 5 * (20 - op) + 30) [.ref 0] n h Q) ∧
  (∀ a op s h p r (Q : Hp → Prop), VS h t len a s → op ≤ 20 → s ≤ 4 * op + 1 → gp t len F 1 a op = some (true, p) → vp t len F 1 a itN = some r → (∀ h', Vr h h' t len s op r → Q h') → CallV g m_X0_readU (d + 5 * (20 - op) + 29) [.ref 0] n h Q) ∧
  (∀ a op s h p r (Q : Hp → Prop), VS h t len a s → op ≤ 20 → s ≤ 4 * op + 2 → gp t len F 2 a op = some (true, p) → vp t len F 2 a itN = some r → (∀ h', Vr h h' t len s op r → Q h') → CallV g m_X0_readW (d + 5 * (20 - op) + 28) [.ref 0] n h Q) ∧
  (∀ a op s h p r (Q : Hp → Prop), VS h t len a s → op ≤ 20 → s ≤ 4 * op + 3 → gp t len F 3 a op = some (true, p) → vp t len F 3 a itN = some r → (∀ h', Vr h h' t len s op r → Q h') → CallV g m_X0_readB (d + 5 * (20 - op) + 27) [.ref 0] n h Q) ∧
  (∀ a op s h i p r (Q : Hp → Prop) av, VS h t len a (s + 1) → IIt h (pcl s) i → gI i → op ≤ 20 → s ≤ 4 * op → gp t len F 4 a op = some (true, p) → vp t len F 4 a i = some r → (∀ h', Vr h h' t len s op r → Q h') → W_X0_readE g (d + 5 * (20 - op) + 29) av (QV n Q) n 70 [some (.ref 0), none, none, none, none, none] [] h) ∧
  (∀ a op s h i p r (Q : Hp → Prop) av, VS h t len a (s + 1) → IIt h (pcl s) i → gI i → op ≤ 20 → s ≤ 4 * op + 1 → gp t len F 5 a op = some (true, p) → vp t len F 5 a i = some r → (∀ h', Vr h h' t len s op r → Q h') → W_X0_readU g (d + 5 * (20 - op) + 28) av (QV n Q) n 4 [some (.ref 0), none, none, none, none] [] h)
theorem VF.ne {h : Hp} {op c pl : Nat} (P : VF h t len op c pl) : ¬ ri h 0 15 = 0 := fun z => P.2.1.1 (P.2.1.2.1.symm.trans z)
theorem VS.pop {h h1 : Hp} {a s u : Nat} (P : VS h t len a (s + 1)) (e : h1 = wi h 0 19 (ri h 0 19 - 1)) : VS h1 t len a s ∧ Vz u h h1 := by
  have f : Vz u h h1 := by rw [e]; exact Vz.rf.put (Or.inr rfl)
  exact ⟨⟨P.1.vz f, by rw [e, ri_ne' (by decide)]; exact P.2.1, P.2.2.1, by rw [e, ri_ne' (by decide)]; exact P.2.2.2.1, by rw [e, ri_same, P.2.2.2.2.1, nI_sub1 (by omega), Nat.add_sub_cancel], f.2.2.1 P.2.2.2.2.2⟩, f⟩
theorem Lmu_sv {s x : Nat} (hs : s < 100) (h : x ∈ Lmu (pcl s)) : Sv s x := by
  have hpc : pcl s = 1509 + 10 * s := rfl
  simp only [Lmu, Lit, Lrd, List.mem_append, List.mem_cons, List.not_mem_nil, or_false] at h
  unfold Sv; omega
theorem Lmu_p0 (s : Nat) : 0 ∉ Lmu (pcl s) := by
  have hpc : pcl s = 1509 + 10 * s := rfl
  simp only [Lmu, Lit, Lrd, List.mem_append, List.mem_cons, List.not_mem_nil, or_false]; omega
theorem Lrs_sv {s x : Nat} (hs : s < 100) (h : x ∈ Lrs (pcl s)) : Sv s x := by
  have hpc : pcl s = 1509 + 10 * s := rfl
  simp only [Lrs, Lit, Lrd, List.mem_append, List.mem_cons, List.not_mem_nil, or_false] at h
  unfold Sv; omega
theorem Lgv_sv {s x : Nat} (hs : s < 100) (h : x ∈ Lgv (pcl s + 1)) : Sv s x := by
  have hpc : pcl s = 1509 + 10 * s := rfl
  simp only [Lgv, Lrd, List.mem_cons, List.not_mem_nil, or_false] at h
  unfold Sv; omega
theorem Lgv_p0 (s : Nat) : 0 ∉ Lgv (pcl s + 1) := by
  have hpc : pcl s = 1509 + 10 * s := rfl
  simp only [Lgv, Lrd, List.mem_cons, List.not_mem_nil, or_false]; omega
theorem Lrd_sv {s x : Nat} (h : x ∈ Lrd) : Sv s x := by
  simp only [Lrd, List.mem_cons, List.not_mem_nil, or_false] at h
  unfold Sv; omega
theorem Lrd_out' : 0 ∉ Lrd := by decide
theorem L47_sv {s x : Nat} (h : x ∈ Lit 47 ++ Lrd) : Sv s x := by
  simp only [Lit, Lrd, List.mem_append, List.mem_cons, List.not_mem_nil, or_false] at h
  unfold Sv; omega
theorem read_all (hp : g.2.2.2.2 = true) (hby : byt t len) : ∀ F, VK g n t len F := by
  intro F
  induction F with
  | zero =>
    intro d
    refine ⟨?_, ?_, ?_, ?_, ?_, ?_⟩
    · intro a op s h p r Q _ _ _ e; cases e
    · intro a op s h p r Q _ _ _ e; cases e
    · intro a op s h p r Q _ _ _ e; cases e
    · intro a op s h p r Q _ _ _ e; cases e
    · intro a op s h i p r Q av _ _ _ _ _ e; cases e
    · intro a op s h i p r Q av _ _ _ _ _ e; cases e
  | succ F ih =>
    intro d
    refine ⟨?_, ?_, ?_, ?_, ?_, ?_⟩
    · intro a op s h p r Q P hop hs hg hv q
      have hg : gbind (gp t len F 1 (if nxc t len a = 45 then skp t len a + 1 else skp t len a) op) (fun p => gp t len F 4 p op) = some (true, p) := hg
      have hv : sbind (vp t len F 1 (if nxc t len a = 45 then skp t len a + 1 else skp t len a) itN) (fun p i => vp t len F 4 p (if nxc t len a = 45 then negI i else i)) = some r := hv
      obtain ⟨p1, g1, g2⟩ := gbind_true hg
      obtain ⟨r1, v1, v2⟩ := vp_tot t len F 1 _ op p1 itN g1
      have hs100 : s < 100 := by omega
      refine okV 5 rfl rfl (s_X0_readE_0 hp (ok_nextV (u := s) hp P (fun h1 f1 P1 => ⟨fun c => ?_, fun c => ?_⟩)))
      · rw [if_neg c] at g1 v1 hv
        refine s_X0_readE_14 hp ⟨fun _ => s_X0_readE_29 hp l0 (fun h2 e2 => ?_), fun w => absurd rfl w⟩
        have f2 : Vz s h1 h2 := by rw [e2]; exact Vz.rf.put (Or.inl rfl)
        have P2 : VS h2 t len (skp t len a) s := ⟨P1.1.vz f2, by rw [e2, ri_same, P1.2.1]; grind, P1.2.2.1, by rw [e2, ri_ne' (by decide)]; exact P1.2.2.2.1, by rw [e2, ri_ne' (by decide)]; exact P1.2.2.2.2.1, f2.2.2.1 P1.2.2.2.2.2⟩
        refine (ih d).2.1 _ op s h2 p1 r1 _ P2 hop (by omega) g1 v1 (fun h3 G => ⟨fun _ => ?_, fun w => absurd rfl w⟩)
        rcases gbind_k v1 hv with ⟨f, e3, e4⟩ | ⟨p', i, e3, e4⟩
        · subst e3
          exact s_X0_readE_70 hp ⟨fun _ => qV (q h3 (by rw [e4]; exact G.tr (f1.tr f2))), fun w => absurd w G.2.ne⟩
        · subst e3
          have hp1 := v2 p' i rfl
          subst hp1
          rw [if_neg c] at e4
          exact (ih d).2.2.2.2.1 p' op s h3 i p r Q _ G.2.1 G.2.2.1 G.2.2.2 hop hs g2 e4 (fun h' G' => q h' (G'.tr ((f1.tr f2).tr G.1)))
      · rw [if_pos c] at g1 v1 hv
        have hl := P.nx c (by decide)
        refine s_X0_readE_14 hp ⟨fun w => absurd w (by decide), fun _ => s_X0_readE_29 hp l0 (fun h2 e2 => ?_)⟩
        have A := P1.adv (u := s) hl (by rw [P1.2.1, nI_1]) e2
        refine (ih d).2.1 _ op s h2 p1 r1 _ A.1 hop (by omega) g1 v1 (fun h3 G => ⟨fun w => absurd w (by decide), fun _ => ?_⟩)
        rcases gbind_k v1 hv with ⟨f, e3, e4⟩ | ⟨p', i, e3, e4⟩
        · subst e3
          exact ⟨fun _ => s_X0_readE_70 hp ⟨fun _ => qV (q h3 (by rw [e4]; exact G.tr (f1.tr A.2))), fun w => absurd w G.2.ne⟩, fun w => absurd w G.2.ne⟩
        · subst e3
          have hp1 := v2 p' i rfl
          subst hp1
          rw [if_pos c] at e4
          refine ⟨fun w => absurd G.2.1.2.2.2.1 w, fun _ => ?_⟩
          rw [G.2.1.2.2.2.2.1, nI_sub1 (by omega), Nat.add_sub_cancel, nI_tN (by omega)]
          refine ⟨nI_inL hs100 (by omega), fun r3 e5 => ?_⟩
          subst e5
          have tx := pcl_lay hs100
          rw [← toI_m1]
          refine ok_dscale (a := pcl s + 2) hp (it_2 tx) G.2.2.1.1.1 (fun h4 f4 H4 => ?_)
          have hpc : pcl s = 1509 + 10 * s := rfl
          have sub : ∀ z, z ∈ [pcl s + 2, pcl s + 2 + 1] → Sv s z := fun z hz => by simp at hz; exact sv_in hs100 (by omega) (by omega)
          have P4 := G.2.1.fr f4 (by simp) sub
          have H4' : IIt h4 (pcl s) (negI i) := ⟨⟨H4, G.2.2.1.1.2.fr f4 (by simp) (by simp)⟩, by rw [f4.gi (by simp; omega)]; exact G.2.2.1.2.1, by rw [f4.gi (by simp; omega)]; exact G.2.2.1.2.2.1, G.2.2.1.2.2.2.fr f4 (fun z hz => by simp at hz ⊢; omega)⟩
          exact (ih d).2.2.2.2.1 p' op s h4 (negI i) p r Q _ P4 H4' (gI_neg G.2.2.2) hop hs g2 e4 (fun h' G' => q h' (G'.tr (((f1.tr A.2).tr G.1).tr (Vz.of_fr f4 (by simp) sub))))
    · intro a op s h p r Q P hop hs hg hv q
      have hg : gbind (gp t len F 2 a op) (fun p => gp t len F 5 p op) = some (true, p) := hg
      have hv : sbind (vp t len F 2 a itN) (fun p i => vp t len F 5 p i) = some r := hv
      obtain ⟨p1, g1, g2⟩ := gbind_true hg
      obtain ⟨r1, v1, v2⟩ := vp_tot t len F 2 _ op p1 itN g1
      refine okV 4 rfl rfl (s_X0_readU_0 hp ((ih d).2.2.1 a op s h p1 r1 _ P hop (by omega) g1 v1 (fun h3 G => ?_)))
      rcases gbind_k v1 hv with ⟨f, e3, e4⟩ | ⟨p', i, e3, e4⟩
      · subst e3
        exact s_X0_readU_4 hp ⟨fun _ => qV (q h3 (by rw [e4]; exact G)), fun w => absurd w G.2.ne⟩
      · subst e3
        have hp1 := v2 p' i rfl
        subst hp1
        exact (ih d).2.2.2.2.2 p' op s h3 i p r Q _ G.2.1 G.2.2.1 G.2.2.2 hop (by omega) g2 e4 (fun h' G' => q h' (G'.tr G.1))
    · intro a op s h p r Q P hop hs hg hv q
      have hs100 : s < 100 := by omega
      have hpc : pcl s = 1509 + 10 * s := rfl
      have tx := pcl_lay hs100
      have hg : gbind (gp t len F 3 a op) (fun p => if nxc t len (if nxc t len p = 33 then skp t len p + 1 else skp t len p) = 94 then gp t len F 3 (skp t len (if nxc t len p = 33 then skp t len p + 1 else skp t len p) + 1) op else some (true, skp t len (if nxc t len p = 33 then skp t len p + 1 else skp t len p))) = some (true, p) := hg
      have hv : sbind (vp t len F 3 a itN) (fun p i => vout (if nxc t len p = 33 then facI i else Sum.inl i) (skp t len p) (fun i => if nxc t len (if nxc t len p = 33 then skp t len p + 1 else skp t len p) = 94 then sbind (vp t len F 3 (skp t len (if nxc t len p = 33 then skp t len p + 1 else skp t len p) + 1) itN) (fun p2 e => vout (powT i e) (skp t len (if nxc t len p = 33 then skp t len p + 1 else skp t len p)) (fun r => some (Sum.inl (p2, r)))) else some (Sum.inl (skp t len (if nxc t len p = 33 then skp t len p + 1 else skp t len p), i)))) = some r := hv
      obtain ⟨p1, g1, g2⟩ := gbind_true hg
      obtain ⟨r1, v1, v2⟩ := vp_tot t len F 3 _ op p1 itN g1
      have j51F : ∀ h3 c pl, Vz s h h3 → VF h3 t len op c pl → r = Sum.inr (c, pl) → W_X0_readW g (d + 5 * (20 - op) + 27) [.ref 0] (QV n Q) n 51 [some (.ref 0), none] [] h3 := by
        intro h3 c pl f3 P3 er
        exact s_X0_readW_51 hp ⟨fun _ => qV (q h3 (by rw [er]; exact ⟨f3, P3⟩)), fun w => absurd w P3.ne⟩
      refine okV 1 rfl rfl (s_X0_readW_0 hp ((ih d).2.2.2.1 a op s h p1 r1 _ P hop (by omega) g1 v1 (fun h3 G => ?_)))
      rcases gbind_k v1 hv with ⟨⟨cf, pf⟩, e3, e4⟩ | ⟨p', i, e3, e4⟩
      · subst e3
        exact ⟨fun _ => j51F h3 cf pf G.1 G.2 e4, fun w => absurd w G.2.ne⟩
      · subst e3
        have hp1 := v2 p' i rfl
        subst hp1
        -- behind '!'
        have j51 : ∀ h4 i' pp, Vz s h h4 → VS h4 t len pp (s + 1) → IIt h4 (pcl s) i' → gI i' → pp = (if nxc t len p' = 33 then skp t len p' + 1 else skp t len p') → (if nxc t len pp = 94 then sbind (vp t len F 3 (skp t len pp + 1) itN) (fun p2 e => vout (powT i' e) (skp t len pp) (fun r => some (Sum.inl (p2, r)))) else some (Sum.inl (skp t len pp, i'))) = some r → W_X0_readW g (d + 5 * (20 - op) + 27) [.ref 0] (QV n Q) n 51 [some (.ref 0), none] [] h4 := by
          intro h4 i' pp f4 P4 H4 gi4 epp e5
          rw [← epp] at g2
          refine s_X0_readW_51 hp ⟨fun w => absurd P4.2.2.2.1 w, fun _ => ok_nextV (u := s + 1) hp P4 (fun h5 f5 P5 => ⟨fun c => ?_, fun c h6 e6 => ?_⟩)⟩
          · rw [if_neg c] at e5 g2
            injection e5 with e5
            refine qV (q h5 ?_)
            rw [← e5]
            exact ⟨f4.tr (f5.mono (by omega)), P5, H4.vz f5 (by omega), gi4⟩
          · rw [if_pos c] at e5 g2
            have A := P5.adv (u := s + 1) (P4.nx c (by decide)) (by rw [P5.2.1, nI_1]) e6
            obtain ⟨r2, v3, v4⟩ := vp_tot t len F 3 _ op p itN g2
            refine (ih d).2.2.2.1 _ op (s + 1) h6 p r2 _ A.1 hop (by omega) g2 v3 (fun h7 G7 => ?_)
            have H67 := ((H4.vz f5 (by omega)).vz A.2 (by omega)).vz G7.1 (by omega)
            have z47 : Vz s h h7 := ((f4.tr (f5.mono (by omega))).tr (A.2.mono (by omega))).tr (G7.1.mono (by omega))
            rcases gbind_k v3 e5 with ⟨⟨cf, pf⟩, e7, e8⟩ | ⟨p2, e, e7, e8⟩
            · subst e7
              exact ⟨fun _ => qV (q h7 (by rw [e8]; exact ⟨z47, G7.2⟩)), fun w => absurd w G7.2.ne⟩
            · subst e7
              have hp2 := v4 p2 e rfl
              subst hp2
              refine ⟨fun w => absurd G7.2.1.2.2.2.1 w, fun _ h8 e9 => ?_⟩
              have B := G7.2.1.pop (u := s + 1) e9
              have B2 := G7.2.1.pop (u := s + 2) e9
              rw [B.1.2.2.2.2.1, nI_sub1 (by omega), Nat.add_sub_cancel, nI_tN (by omega), nI_tN (by omega)]
              refine ⟨nI_inL (by omega) (by omega), fun r5 e10 => ⟨nI_inL (by omega) (by omega), fun r6 e11 => ?_⟩⟩
              subst e10 e11
              have hpc1 : pcl (s + 1) = 1509 + 10 * (s + 1) := rfl
              rw [P5.2.1]
              refine ok_readPower hp tx (pcl_lay (show s + 1 < 100 by omega)) (by omega) (by omega) B.1.2.2.2.2.2 B.1.2.2.2.1 (H67.vz B.2 (by omega)) (G7.2.2.1.vz B2.2 (by omega)) gi4 (fun h9 V9 => qV (q h9 ?_))
              have z9 : Vz s h8 h9 := Vz.of_w V9.1 (fun z hz => Lrs_sv hs100 hz)
              have zz : Vz s h h9 := (z47.tr (B.2.mono (by omega))).tr z9
              obtain ⟨w1, w2⟩ := V9
              rcases vout_k e8 with ⟨cc', ec, er⟩ | ⟨i2, ei, er⟩
              · rw [ec] at w2
                rw [er]
                exact ⟨zz, VF.of B.1 hop (B.1.1.vz z9) w2 (w1.2 13 (by omega))⟩
              · rw [ei] at w2
                injection er with er
                rw [← er]
                exact ⟨zz, ⟨B.1.1.vz z9, by rw [w1.2 13 (by omega)]; exact B.1.2.1, B.1.2.2.1, w2.1, by rw [w1.2 19 (by omega)]; exact B.1.2.2.2.2.1, z9.2.2.1 B.1.2.2.2.2.2⟩, w2.2.1, w2.2.2⟩
        refine ⟨fun w => absurd G.2.1.2.2.2.1 w, fun _ => ok_nextV (u := s + 1) hp G.2.1 (fun h4 f4 P4 => ⟨fun c => ?_, fun c h5 e5 => ?_⟩)⟩
        · simp only [if_neg c] at e4
          exact j51 h4 i _ (G.1.tr (f4.mono (by omega))) P4 (G.2.2.1.vz f4 (by omega)) G.2.2.2 (by rw [if_neg c]) e4
        · have A := P4.adv (u := s + 1) (G.2.1.nx c (by decide)) (by rw [P4.2.1, nI_1]) e5
          rw [A.1.2.2.2.2.1, nI_sub1 (by omega), Nat.add_sub_cancel, nI_tN (by omega), P4.2.1]
          refine ⟨nI_inL hs100 (by omega), fun r4 e6 => ?_⟩
          subst e6
          have Hi5 := (G.2.2.1.vz f4 (by omega)).vz A.2 (by omega)
          have z5 : Vz s h h5 := (G.1.tr (f4.mono (by omega))).tr (A.2.mono (by omega))
          refine ok_readFactorial hp tx A.1.2.2.2.2.2 A.1.2.2.2.1 Hi5 (fun h6 V6 => ?_)
          have z6 : Vz s h5 h6 := Vz.of_w V6.1 (fun z hz => Lit_sv s z hs100 hz)
          obtain ⟨w1, w2⟩ := V6
          rw [if_pos c] at e4
          rcases vout_k e4 with ⟨cc', ec, er⟩ | ⟨i2, ei, er⟩
          · rw [ec] at w2
            exact j51F h6 cc' _ (z5.tr z6) (VF.of A.1 hop (A.1.1.vz z6) w2 (w1.2 13 (by omega))) er
          · rw [ei] at w2
            simp only [if_pos c] at er
            exact j51 h6 i2 _ (z5.tr z6) ⟨A.1.1.vz z6, by rw [w1.2 13 (by omega)]; exact A.1.2.1, A.1.2.2.1, w2.1, by rw [w1.2 19 (by omega)]; exact A.1.2.2.2.2.1, z6.2.2.1 A.1.2.2.2.2.2⟩ w2.2.1 w2.2.2 (by rw [if_pos c]) er
    · intro a op s h p r Q P hop hs hg hv q
      have hs100 : s < 100 := by omega
      have hpc : pcl s = 1509 + 10 * s := rfl
      have hle := (skp_le (t := t) P.2.2.1).2
      have hg : (if ¬ nxc t len a < 48 ∧ ¬ 57 < nxc t len a then gdig t (skp t len a) (len - skp t len a) (skp t len a) else if nxc t len a = 110 ∨ nxc t len a = 107 then some (true, skp t len a + 1) else if nxc t len a = 67 then gbind (gopen t len (skp t len a + 1) op) (fun p => gbind (gp t len F 0 p (op + 1)) (fun p => gbind (gwant t len 44 p) (fun p => gbind (gp t len F 0 p (op + 1)) (fun p => gwant t len 41 p)))) else if nxc t len a = 40 then gbind (gopen t len (skp t len a) op) (fun p => gbind (gp t len F 0 p (op + 1)) (fun p => gwant t len 41 p)) else some (false, skp t len a)) = some (true, p) := hg
      have hv : (if ¬ nxc t len a < 48 ∧ ¬ 57 < nxc t len a then some (Sum.inl ((digV t (len - skp t len a) (skp t len a) 0).1, numI (nF (digV t (len - skp t len a) (skp t len a) 0).2))) else if nxc t len a = 110 then some (Sum.inl (skp t len a + 1, itN)) else if nxc t len a = 107 then some (Sum.inl (skp t len a + 1, itK)) else if nxc t len a = 67 then sbind (vp t len F 0 (skp t len (skp t len a + 1) + 1) itN) (fun p1 x => sbind (vp t len F 0 (skp t len p1 + 1) itN) (fun p2 y => vout (chI x y) (skp t len a) (fun r => some (Sum.inl (skp t len p2 + 1, r))))) else sbind (vp t len F 0 (skp t len a + 1) itN) (fun p1 x => some (Sum.inl (skp t len p1 + 1, x)))) = some r := hv
      refine okV 3 rfl rfl (s_X0_readB_0 hp (ok_nextV (u := s) hp P (fun h1 f1 P1 => ?_)))
      have j108 : ¬ (¬ nxc t len a < 48 ∧ ¬ 57 < nxc t len a) → W_X0_readB g (d + 5 * (20 - op) + 26) [.ref 0] (QV n Q) n 108 [some (.ref 0), some (.int (nxc t len a)), none, none] [] h1 := by
        intro z
        rw [if_neg z] at hg hv
        refine s_X0_readB_108 hp ⟨fun e => ?_, fun e => ⟨fun e2 => ⟨fun e3 h2 e4 => ?_, fun e3 => ?_⟩, fun e2 => ?_⟩⟩
        · rw [if_pos e] at hv
          injection hv with hv
          have hl := P.nx e (by decide)
          rw [e]
          exact w_letter (isn := true) (op := op) hp hs100 P1 hl (fun h' G => q h' (by rw [← hv]; exact G.tr f1))
        · rw [if_neg (fun w => w.elim e e2), if_neg e3] at hg
          rw [if_neg e, if_neg e2, if_neg e3] at hv
          by_cases e5 : nxc t len a = 40
          · rw [if_pos e5] at hg
            have hl := P.nx e5 (by decide)
            obtain ⟨p1, g1, g2⟩ := gbind_true hg
            obtain ⟨p2, g3, g4⟩ := gbind_true g2
            have w1 := gopen_true g1
            have w3 := gwant_true g4
            rw [w1.2.2, skp_skp] at g3
            obtain ⟨r1, v1, v2⟩ := vp_tot t len F 0 _ (op + 1) p2 itN g3
            have A := P1.adv (u := s) hl (by rw [P1.2.1, nI_1]) e4
            have call := (ih (d + 1)).1 _ (op + 1) s h2 p2 r1 (fun h2 => CallI g m_X0_next (d + 5 * (20 - op) + 26) [.ref 0] n h2 (fun v3 h3 => ∀ h4, h4 = wi h3 0 13 (ri h3 0 13 + 1) → QV n Q none n h4)) A.1 (by have := w1.2.1; omega) (by omega) g3 v1
            rw [show d + 1 + 5 * (20 - (op + 1)) + 30 = d + 5 * (20 - op) + 26 by have := w1.2.1; omega] at call
            refine call (fun h3 G => ?_)
            rcases gbind_k v1 hv with ⟨⟨cf, pf⟩, e6, e7⟩ | ⟨p', i, e6, e7⟩
            · subst e6
              refine ok_nextF (u := s) hp G.2 (by omega) (fun v h4 f4 P4 h5 e8 => qV (q h5 ?_))
              have B := P4.adv (u := s) rfl e8
              rw [e7]
              exact ⟨(((f1.tr A.2).tr G.1).tr f4).tr B.2, B.1⟩
            · subst e6
              have hp1 := v2 p' i rfl
              subst hp1
              refine ok_nextV (u := s + 1) hp G.2.1 (fun h4 f4 P4 h5 e8 => qV (q h5 ?_))
              have B := P4.adv (u := s + 1) (G.2.1.nx w3.1 (by decide)) (by rw [P4.2.1, nI_1]) e8
              injection e7 with e7
              rw [← e7]
              exact ⟨(((f1.tr A.2).tr G.1).tr (f4.mono (by omega))).tr (B.2.mono (by omega)), B.1, (G.2.2.1.vz f4 (by omega)).vz B.2 (by omega), G.2.2.2⟩
          · rw [if_neg e5] at hg
            injection hg with hg
            injection hg with hg _
            cases hg
        · rw [if_neg (fun w => w.elim e e2), if_pos e3] at hg
          rw [if_neg e, if_neg e2, if_pos e3] at hv
          have hl := P.nx e3 (by decide)
          obtain ⟨p1, g1, g2⟩ := gbind_true hg
          obtain ⟨p2, g3, g4⟩ := gbind_true g2
          obtain ⟨p3, g5, g6⟩ := gbind_true g4
          obtain ⟨p4, g7, g8⟩ := gbind_true g6
          have w1 := gopen_true g1
          have w2 := gwant_true g5
          have w3 := gwant_true g8
          rw [w1.2.2] at g3
          rw [w2.2] at g7
          have hop1 : op + 1 ≤ 20 := by have := w1.2.1; omega
          obtain ⟨r1, v1, v2⟩ := vp_tot t len F 0 _ (op + 1) p2 itN g3
          obtain ⟨r2, v3, v4⟩ := vp_tot t len F 0 _ (op + 1) p4 itN g7
          have eD : d + 5 * (20 - (op + 1)) + 30 = d + 5 * (20 - op) + 25 := by omega
          have call : ∀ (QQ : Hp → Prop), (∀ h5, Vr h h5 t len s op r → QQ h5) → CallV g m_X0_readChoice (d + 5 * (20 - op) + 26) [.ref 0] n h1 QQ := by
            intro QQ qq
            have j76F : ∀ h5 c pl (pl2 : Int32), Vz s h h5 → VF h5 t len op c pl → r = Sum.inr (c, pl) → W_X0_readChoice g (d + 5 * (20 - op) + 25) [.ref 0] (QV n QQ) n 76 [some (.ref 0), some (.int pl2), none, none, none, none, none, none, none, none] [] h5 := by
              intro h5 c pl pl2 f5 P5 er
              exact s_X0_readChoice_76 hp ⟨fun w => absurd w P5.ne, fun _ => qV (qq h5 (by rw [er]; exact ⟨f5, P5⟩))⟩
            refine okV 9 rfl rfl (s_X0_readChoice_0 hp (fun h2 e4 => ?_))
            have A := P1.adv (u := s) hl (by rw [P1.2.1, nI_1]) e4
            refine ok_nextV (u := s) hp A.1 (fun h3 f3 P3 h4 e5 => ?_)
            have B := P3.adv (u := s) (A.1.nx w1.1 (by decide)) (by rw [P3.2.1, nI_1]) e5
            have z4 : Vz s h h4 := ((f1.tr A.2).tr f3).tr B.2
            have c1 := (ih d).1 _ (op + 1) s h4 p2 r1 (fun h4 => CallI g m_X0_next (d + 5 * (20 - op) + 25) [.ref 0] n h4 (fun v5 h5 => ∀ h6, h6 = wi h5 0 13 (ri h5 0 13 + 1) → (((¬ ri h6 0 15 = 0) → W_X0_readChoice g (d + 5 * (20 - op) + 25) [.ref 0] (QV n QQ) n 76 [some (.ref 0), some (.int (ri h1 0 13)), none, none, none, none, none, none, none, none] [] h6) ∧ ((ri h6 0 15 = 0) → CallV g m_X0_readE (d + 5 * (20 - op) + 25) [.ref 0] n h6 (fun h7 => CallI g m_X0_next (d + 5 * (20 - op) + 25) [.ref 0] n h7 (fun v8 h8 => ∀ h9, h9 = wi h8 0 13 (ri h8 0 13 + 1) → W_X0_readChoice g (d + 5 * (20 - op) + 25) [.ref 0] (QV n QQ) n 76 [some (.ref 0), some (.int (ri h1 0 13)), none, none, none, none, none, none, none, none] [] h9)))))) B.1 hop1 (by omega) g3 v1
            rw [eD] at c1
            refine c1 (fun h5 G => ?_)
            rcases gbind_k v1 hv with ⟨⟨cf, pf⟩, e6, e7⟩ | ⟨p', x, e6, e7⟩
            · subst e6
              refine ok_nextF (u := s) hp G.2 (by omega) (fun v h6 f6 P6 h7 e8 => ?_)
              have C := P6.adv (u := s) rfl e8
              exact ⟨fun _ => j76F h7 cf pf _ (((z4.tr G.1).tr f6).tr C.2) C.1 e7, fun w => absurd w C.1.ne⟩
            · subst e6
              have hp1 := v2 p' x rfl
              subst hp1
              refine ok_nextV (u := s + 1) hp G.2.1 (fun h6 f6 P6 h7 e8 => ?_)
              have C := P6.adv (u := s + 1) (G.2.1.nx w2.1 (by decide)) (by rw [P6.2.1, nI_1]) e8
              have z7 : Vz s h h7 := ((z4.tr G.1).tr (f6.mono (by omega))).tr (C.2.mono (by omega))
              have Hx7 := (G.2.2.1.vz f6 (by omega)).vz C.2 (by omega)
              refine ⟨fun w => absurd C.1.2.2.2.1 w, fun _ => ?_⟩
              have c2 := (ih d).1 _ (op + 1) (s + 1) h7 p4 r2 (fun h7 => CallI g m_X0_next (d + 5 * (20 - op) + 25) [.ref 0] n h7 (fun v8 h8 => ∀ h9, h9 = wi h8 0 13 (ri h8 0 13 + 1) → W_X0_readChoice g (d + 5 * (20 - op) + 25) [.ref 0] (QV n QQ) n 76 [some (.ref 0), some (.int (ri h1 0 13)), none, none, none, none, none, none, none, none] [] h9)) C.1 hop1 (by omega) g7 v3
              rw [eD] at c2
              refine c2 (fun h8 G8 => ?_)
              rcases gbind_k v3 e7 with ⟨⟨cf, pf⟩, e9, e10⟩ | ⟨p5, y, e9, e10⟩
              · subst e9
                refine ok_nextF (u := s) hp G8.2 (by omega) (fun v h9 f9 P9 h10 e11 => ?_)
                have E := P9.adv (u := s) rfl e11
                exact j76F h10 cf pf _ (((z7.tr (G8.1.mono (by omega))).tr f9).tr E.2) E.1 e10
              · subst e9
                have hp5 := v4 p5 y rfl
                subst hp5
                refine ok_nextV (u := s + 2) hp G8.2.1 (fun h9 f9 P9 h10 e11 => ?_)
                have E := P9.adv (u := s + 2) (G8.2.1.nx w3.1 (by decide)) (by rw [P9.2.1, nI_1]) e11
                have z10 : Vz s h h10 := ((z7.tr (G8.1.mono (by omega))).tr (f9.mono (by omega))).tr (E.2.mono (by omega))
                have Hx10 := ((Hx7.vz G8.1 (by omega)).vz f9 (by omega)).vz E.2 (by omega)
                have Hy10 := (G8.2.2.1.vz f9 (by omega)).vz E.2 (by omega)
                rw [P1.2.1]
                refine w_ch76 hp (by omega) E.1 Hx10 Hy10 (fun h11 f11 k1 k2 => qq h11 ?_)
                rcases vout_k e10 with ⟨cc', ec, er⟩ | ⟨i2, ei, er⟩
                · obtain ⟨m1, m2, m3⟩ := k2 cc' ec
                  rw [er]
                  exact ⟨z10.tr f11, VF.of E.1 hop m1 m2 (m3.trans E.1.2.1.symm)⟩
                · obtain ⟨m1, m2, m3⟩ := k1 i2 ei
                  injection er with er
                  rw [← er]
                  exact ⟨z10.tr f11, m1, m2, m3⟩
          exact call _ (fun h5 G => qV (q h5 G))
        · rw [if_neg e, if_pos e2] at hv
          injection hv with hv
          have hl := P.nx e2 (by decide)
          rw [e2]
          exact w_letter (isn := false) (op := op) hp hs100 P1 hl (fun h' G => q h' (by rw [← hv]; exact G.tr f1))
      refine ⟨fun c => j108 (fun w => w.1 c), fun c => ⟨fun c2 => j108 (fun w => w.2 c2), fun c2 => ?_⟩⟩
      rw [if_pos ⟨c, c2⟩] at hg hv
      injection hv with hv
      exact w_digV (op := op) hp hs100 (len - skp t len a) (skp t len a) 0 p h1 (by omega) (Nat.le_refl _) (by omega) (by rw [Nat.sub_self]; decide) P1 hg (fun h' G => q h' (by rw [← hv]; exact G.tr f1))
    · intro a op s h i p r Q av P Hi gi hop hs hg hv q
      have hs100 : s + 1 < 100 := by omega
      have hpc : pcl s = 1509 + 10 * s := rfl
      have hpc1 : pcl (s + 1) = 1509 + 10 * (s + 1) := rfl
      have tx := pcl_lay (show s < 100 by omega)
      have ty := pcl_lay hs100
      have hg : (if nxc t len a = 43 ∨ nxc t len a = 45 then gbind (gp t len F 1 (skp t len a + 1) op) (fun p => gp t len F 4 p op) else some (true, skp t len a)) = some (true, p) := hg
      have hv : (if nxc t len a = 43 ∨ nxc t len a = 45 then sbind (vp t len F 1 (skp t len a + 1) itN) (fun p j => vout (sumI (if nxc t len a = 45 then 1 else 0) i j) (skp t len a) (fun r => vp t len F 4 p r)) else some (Sum.inl (skp t len a, i))) = some r := hv
      have j70F : ∀ h3 c pl, Vz s h h3 → VF h3 t len op c pl → r = Sum.inr (c, pl) → W_X0_readE g (d + 5 * (20 - op) + 29) av (QV n Q) n 237 [some (.ref 0), none, none, none, none, none] [] h3 := by
        intro h3 c pl f3 P3 er
        exact s_X0_readE_237 hp (s_X0_readE_70 hp ⟨fun _ => qV (q h3 (by rw [er]; exact ⟨f3, P3⟩)), fun w => absurd w P3.ne⟩)
      have j95 : (nxc t len a = 43 ∨ nxc t len a = 45) → ∀ h1, Vz (s + 1) h h1 → VS h1 t len (skp t len a) (s + 1) → W_X0_readE g (d + 5 * (20 - op) + 29) av (QV n Q) n 95 [some (.ref 0), none, none, none, none, none] [] h1 := by
        intro ce h1 f1 P1
        have hl := ce.elim (fun e => P.nx e (by decide)) (fun e => P.nx e (by decide))
        have hl4 := P1.1.2.1
        rw [if_pos ce] at hg hv
        obtain ⟨p1, g1, g2⟩ := gbind_true hg
        obtain ⟨r1, v1, v2⟩ := vp_tot t len F 1 _ op p1 itN g1
        have j119 : W_X0_readE g (d + 5 * (20 - op) + 29) av (QV n Q) n 119 [some (.ref 0), none, some (.int (nI (skp t len a))), none, none, none] [.int (if nxc t len a = 45 then 1 else 0)] h1 := by
          refine s_X0_readE_119 hp (fun h2 e2 => ?_)
          have A := P1.adv (u := s + 1) hl (by rw [P1.2.1, nI_1]) e2
          refine (ih d).2.1 _ op (s + 1) h2 p1 r1 _ A.1 hop (by omega) g1 v1 (fun h3 G => ?_)
          have z3 : Vz s h h3 := (f1.mono (by omega)).tr ((A.2.mono (by omega)).tr (G.1.mono (by omega)))
          have Hi3 := ((Hi.vz f1 (by omega)).vz A.2 (by omega)).vz G.1 (by omega)
          rcases gbind_k v1 hv with ⟨⟨cf, pf⟩, e3, e4⟩ | ⟨p', j, e3, e4⟩
          · subst e3
            exact ⟨fun _ => j70F h3 cf pf z3 G.2 e4, fun w => absurd w G.2.ne⟩
          · subst e3
            have hp1 := v2 p' j rfl
            subst hp1
            refine ⟨fun w => absurd G.2.1.2.2.2.1 w, fun _ h4 e5 => ?_⟩
            have B := G.2.1.pop (u := s + 1) e5
            have B2 := G.2.1.pop (u := s + 2) e5
            have Hi4 := Hi3.vz B.2 (by omega)
            have Hj4 := G.2.2.1.vz B2.2 (by omega)
            have z4 : Vz s h h4 := z3.tr (B.2.mono (by omega))
            rw [B.1.2.2.2.2.1, nI_sub1 (by omega), Nat.add_sub_cancel, nI_tN (by omega), nI_tN (by omega)]
            refine ⟨nI_inL (by omega) (by omega), fun r4 e6 => ⟨nI_inL (by omega) (by omega), fun r5 e7 => ?_⟩⟩
            subst e6 e7
            have j191 : (isT i.2.2.1 i.2.2.2.1 i.2.2.2.2 ∨ isT j.2.2.1 j.2.2.2.1 j.2.2.2.2) → W_X0_readE g (d + 5 * (20 - op) + 29) av (QV n Q) n 191 [some (.ref 0), none, some (.int (nI (skp t len a))), none, none, none] [] h4 := by
              intro hT
              have es : sumI (if nxc t len a = 45 then 1 else 0) i j = Sum.inr 2 := by unfold sumI; rw [cite_pos hT]
              rw [es] at e4
              have e4 : some (Sum.inr (2, skp t len a)) = some r := e4
              injection e4 with e4
              refine s_X0_readE_191 hp (ok_flawW (L := []) hp B.1.2.2.2.1 (by decide) (fun h5 f5 P5 => j70F h5 2 _ (z4.tr (Vz.of_w f5 (by simp))) (VF.of B.1 hop (B.1.1.vz (Vz.of_w (s := s) f5 (by simp))) P5 (f5.2 13 (by omega))) e4.symm))
            refine ok_isTerm hp tx Hi4.2.1 Hi4.2.2.1 Hi4.2.2.2 (fun hT => ⟨fun _ => j191 (Or.inl hT), fun w => absurd w (by decide)⟩) (fun hT => ⟨fun w => absurd rfl w, fun _ => ?_⟩)
            refine ok_isTerm hp ty Hj4.2.1 Hj4.2.2.1 Hj4.2.2.2 (fun hT2 => ⟨fun w => absurd w (by decide), fun _ => j191 (Or.inr hT2)⟩) (fun hT2 => ⟨fun _ => ?_, fun w => absurd rfl w⟩)
            have ho : (if nxc t len a = 45 then 1 else 0) < 2 := by split <;> omega
            have j210 : W_X0_readE g (d + 5 * (20 - op) + 29) av (QV n Q) n 210 [some (.ref 0), none, some (.int (nI (skp t len a))), none, some (.ref (pcl s)), some (.ref (pcl (s + 1)))] [.int (nI (if nxc t len a = 45 then 1 else 0)), .ref 0] h4 := by
              refine s_X0_readE_210 hp tx ty l0 (ok_reckon hp (it_1 tx) (it_1 ty) (it_1 tx) B.1.2.2.2.2.2 (by omega) Hi4.1 Hj4.1 gi.b G.2.2.2.b (fun w => absurd w (by omega)) (fun x1 x2 h5 f5 H5 => ⟨fun _ => ?_, fun w => absurd w (by decide)⟩) (fun z h5 f5 => ⟨fun w => absurd rfl w, fun _ => ?_⟩))
              · have es : sumI (if nxc t len a = 45 then 1 else 0) i j = Sum.inl (lowT (rkN (if nxc t len a = 45 then 1 else 0) i.1 i.2.1 j.1 j.2.1) (rkD (if nxc t len a = 45 then 1 else 0) i.1 i.2.1 j.1 j.2.1), lowB (rkN (if nxc t len a = 45 then 1 else 0) i.1 i.2.1 j.1 j.2.1) (rkD (if nxc t len a = 45 then 1 else 0) i.1 i.2.1 j.1 j.2.1), i.2.2.1, i.2.2.2.1, i.2.2.2.2) := by
                  unfold sumI
                  rw [cite_neg (fun w => w.elim hT hT2), cite_pos ⟨x1, x2⟩]
                have gr := gI_sum ho gi G.2.2.2 es
                rw [es] at e4
                have sub : ∀ z, z ∈ Lgv (pcl s + 1) → Sv s z := fun z hz => Lgv_sv (by omega) hz
                have oI : ∀ z, z = pcl s ∨ pcl s + 6 ≤ z → z ∉ Lgv (pcl s + 1) := fun z hz => by
                  simp only [Lgv, Lrd, List.mem_cons, List.not_mem_nil, or_false]; omega
                refine s_X0_readE_237 hp ((ih d).2.2.2.2.1 p' op s h5 (lowT (rkN (if nxc t len a = 45 then 1 else 0) i.1 i.2.1 j.1 j.2.1) (rkD (if nxc t len a = 45 then 1 else 0) i.1 i.2.1 j.1 j.2.1), lowB (rkN (if nxc t len a = 45 then 1 else 0) i.1 i.2.1 j.1 j.2.1) (rkD (if nxc t len a = 45 then 1 else 0) i.1 i.2.1 j.1 j.2.1), i.2.2.1, i.2.2.2.1, i.2.2.2.2) p r Q av (B.1.fr f5 (Lgv_p0 s) sub) ⟨H5, by rw [f5.gi (oI _ (Or.inl rfl))]; exact Hi4.2.1, by rw [f5.gi (oI _ (Or.inl rfl))]; exact Hi4.2.2.1, Hi4.2.2.2.fr f5 (fun z hz => oI z (by simp at hz; omega))⟩ gr hop hs g2 e4 (fun h' G' => q h' (G'.tr (z4.tr (Vz.of_fr f5 (Lgv_p0 s) sub)))))
              · have es : sumI (if nxc t len a = 45 then 1 else 0) i j = Sum.inr 4 := by
                  unfold sumI
                  rw [cite_neg (fun w => w.elim hT hT2), cite_neg z]
                rw [es] at e4
                have e4 : some (Sum.inr (4, skp t len a)) = some r := e4
                injection e4 with e4
                have P5 := B.1.fr (op := s) f5 (Lrd_out' ) (fun z hz => Lrd_sv hz)
                refine ok_flawW (L := []) hp P5.2.2.2.1 (by decide) (fun h6 f6 P6 => j70F h6 4 _ ((z4.tr (Vz.of_fr f5 Lrd_out' (fun z hz => Lrd_sv hz))).tr (Vz.of_w f6 (by simp))) (VF.of P5 hop (P5.1.vz (Vz.of_w (s := s) f6 (by simp))) P6 (f6.2 13 (by omega))) e4.symm)
            by_cases c45 : nxc t len a = 45
            · rw [if_pos c45] at j210 ⊢
              exact ⟨fun w => absurd w (by decide), fun _ => j210⟩
            · rw [if_neg c45] at j210 ⊢
              exact ⟨fun _ => j210, fun w => absurd rfl w⟩
        refine s_X0_readE_95 hp ?_
        rw [P1.2.1, nI_tN (by omega), P1.1.2.2 _ hl, show (45 : Int32) = nI 45 from rfl, nx_raw hby hl (by omega)]
        refine ⟨nI_inL (by omega) (by omega), fun w => ?_, fun w => ?_⟩
        · rw [if_neg (show ¬ nxc t len a = 45 from w)] at j119; exact j119
        · rw [if_pos (show nxc t len a = 45 from w)] at j119; exact j119
      refine s_X0_readE_70 hp ⟨fun w => absurd P.2.2.2.1 w, fun _ => ok_nextV (u := s + 1) hp P (fun h1 f1 P1 => ⟨fun c => j95 (Or.inl c) h1 f1 P1, fun c => ok_nextV (u := s + 1) hp P1 (fun h2 f2 P2 => ?_)⟩)⟩
      rw [nxc_skp]
      rw [skp_skp] at P2
      refine ⟨fun c2 => qV (q h2 ?_), fun c2 => j95 (Or.inr c2) h2 (f1.tr f2) P2⟩
      rw [if_neg (fun w => w.elim c c2)] at hv
      injection hv with hv
      rw [← hv]
      exact ⟨(f1.tr f2).mono (by omega), P2, (Hi.vz (f1.tr f2) (by omega)), gi⟩
    · intro a op s h i p r Q av P Hi gi hop hs hg hv q
      have hs100 : s + 1 < 100 := by omega
      have hpc : pcl s = 1509 + 10 * s := rfl
      have hpc1 : pcl (s + 1) = 1509 + 10 * (s + 1) := rfl
      have tx := pcl_lay (show s < 100 by omega)
      have ty := pcl_lay hs100
      have hg : (if nxc t len a = 42 ∨ nxc t len a = 47 then gbind (gp t len F 2 (skp t len a + 1) op) (fun p => gp t len F 5 p op) else some (true, skp t len a)) = some (true, p) := hg
      have hv : (if nxc t len a = 42 ∨ nxc t len a = 47 then sbind (vp t len F 2 (skp t len a + 1) itN) (fun p j => vout (mulT (decide (nxc t len a = 47)) i j) (skp t len a) (fun r => vp t len F 5 p r)) else some (Sum.inl (skp t len a, i))) = some r := hv
      have j4F : ∀ h3 c pl, Vz s h h3 → VF h3 t len op c pl → r = Sum.inr (c, pl) → W_X0_readU g (d + 5 * (20 - op) + 28) av (QV n Q) n 150 [some (.ref 0), none, none, none, none] [] h3 := by
        intro h3 c pl f3 P3 er
        exact s_X0_readU_150 hp (s_X0_readU_4 hp ⟨fun _ => qV (q h3 (by rw [er]; exact ⟨f3, P3⟩)), fun w => absurd w P3.ne⟩)
      have j29 : (nxc t len a = 42 ∨ nxc t len a = 47) → ∀ h1, Vz (s + 1) h h1 → VS h1 t len (skp t len a) (s + 1) → W_X0_readU g (d + 5 * (20 - op) + 28) av (QV n Q) n 29 [some (.ref 0), none, none, none, none] [] h1 := by
        intro ce h1 f1 P1
        have hl := ce.elim (fun e => P.nx e (by decide)) (fun e => P.nx e (by decide))
        have hl4 := P1.1.2.1
        rw [if_pos ce] at hg hv
        obtain ⟨p1, g1, g2⟩ := gbind_true hg
        obtain ⟨r1, v1, v2⟩ := vp_tot t len F 2 _ op p1 itN g1
        have j53 : ∀ by' : Bool, by' = decide (nxc t len a = 47) → W_X0_readU g (d + 5 * (20 - op) + 28) av (QV n Q) n 53 [some (.ref 0), some (.int (nI (skp t len a))), none, none, none] [.int (if by' = true then 1 else 0)] h1 := by
          intro by' eby
          rw [← eby] at hv
          refine s_X0_readU_53 hp (fun h2 e2 => ?_)
          have A := P1.adv (u := s + 1) hl (by rw [P1.2.1, nI_1]) e2
          refine (ih d).2.2.1 _ op (s + 1) h2 p1 r1 _ A.1 hop (by omega) g1 v1 (fun h3 G => ?_)
          have z3 : Vz s h h3 := (f1.mono (by omega)).tr ((A.2.mono (by omega)).tr (G.1.mono (by omega)))
          have Hi3 := ((Hi.vz f1 (by omega)).vz A.2 (by omega)).vz G.1 (by omega)
          rcases gbind_k v1 hv with ⟨⟨cf, pf⟩, e3, e4⟩ | ⟨p', j, e3, e4⟩
          · subst e3
            exact ⟨fun _ => j4F h3 cf pf z3 G.2 e4, fun w => absurd w G.2.ne⟩
          · subst e3
            have hp1 := v2 p' j rfl
            subst hp1
            refine ⟨fun w => absurd G.2.1.2.2.2.1 w, fun _ h4 e5 => ?_⟩
            have B := G.2.1.pop (u := s + 1) e5
            have B2 := G.2.1.pop (u := s + 2) e5
            have Hi4 := Hi3.vz B.2 (by omega)
            have Hj4 := G.2.2.1.vz B2.2 (by omega)
            have z4 : Vz s h h4 := z3.tr (B.2.mono (by omega))
            rw [B.1.2.2.2.2.1, nI_sub1 (by omega), Nat.add_sub_cancel, nI_tN (by omega), nI_tN (by omega)]
            refine ⟨nI_inL (by omega) (by omega), fun r4 e6 => ⟨nI_inL (by omega) (by omega), fun r5 e7 => ?_⟩⟩
            subst e6 e7
            have bad : ∀ (c : Nat) (h5 : Hp), nI c ≠ 0 → mulT by' i j = Sum.inr c → Vz s h h5 → VS h5 t len p' (s + 1) → CallV g m_X0_flaw (d + 5 * (20 - op) + 28) [.ref 0, .int (nI c), .int (nI (skp t len a))] n h5 (fun h7 => W_X0_readU g (d + 5 * (20 - op) + 28) av (QV n Q) n 150 [some (.ref 0), none, none, none, none] [] h7) := by
              intro c h5 hc es z5 P5
              rw [es] at e4
              have e4 : some (Sum.inr (c, skp t len a)) = some r := e4
              injection e4 with e4
              exact ok_flawW (L := []) hp P5.2.2.2.1 hc (fun h6 f6 P6 => j4F h6 c _ (z5.tr (Vz.of_w f6 (by simp))) (VF.of P5 hop (P5.1.vz (Vz.of_w (s := s) f6 (by simp))) P6 (f6.2 13 (by omega))) e4.symm)
            have j132 : ¬ (by' = true ∧ j.1 = bz) → W_X0_readU g (d + 5 * (20 - op) + 28) av (QV n Q) n 132 [some (.ref 0), some (.int (nI (skp t len a))), some (.int (if by' = true then 1 else 0)), some (.ref (pcl s)), some (.ref (pcl (s + 1)))] [] h4 := by
              intro hnz
              have eM : mulT by' i j = orF (mulI by' i j) 4 := by unfold mulT; rw [cite_neg hnz]
              refine s_X0_readU_132 hp tx ty (ok_mulG hp tx ty tx (by omega) (by omega) (by omega) B.1.2.2.2.2.2 Hi4 Hj4 gi G.2.2.2 (fun w z => hnz ⟨w, z⟩) (fun ri er gr h5 f5 H5 => ⟨fun _ => ?_, fun w => absurd w (by decide)⟩) (fun er h5 f5 => ⟨fun w => absurd rfl w, fun _ => ?_⟩))
              · rw [eM, er] at e4
                have sub : ∀ z, z ∈ Lmu (pcl s) → Sv s z := fun z hz => Lmu_sv (by omega) hz
                exact s_X0_readU_150 hp ((ih d).2.2.2.2.2 p' op s h5 ri p r Q av (B.1.fr f5 (Lmu_p0 s) sub) H5 gr hop (by omega) g2 e4 (fun h' G' => q h' (G'.tr (z4.tr (Vz.of_fr f5 (Lmu_p0 s) sub)))))
              · have o0 : 0 ∉ Lit 47 ++ Lrd := by decide
                exact bad 4 h5 (by decide) (by rw [eM, er]; rfl) (z4.tr (Vz.of_fr f5 o0 (fun z hz => L47_sv hz))) (B.1.fr (op := s) f5 o0 (fun z hz => L47_sv hz))
            cases by' with
            | false => exact ⟨fun _ => j132 (fun w => by cases w.1), fun w => absurd rfl w⟩
            | true =>
              refine ⟨fun w => absurd w (by decide), fun _ => ok_risZero hp (it_1 ty) Hj4.1 (fun z => ⟨fun w => absurd w (by decide), fun _ => ?_⟩) (fun z => ⟨fun _ => j132 (fun w => z w.2), fun w => absurd rfl w⟩)⟩
              exact bad 3 h4 (by decide) (by unfold mulT; rw [cite_pos ⟨rfl, z⟩]) z4 B.1
        refine s_X0_readU_29 hp ?_
        rw [P1.2.1, nI_tN (by omega), P1.1.2.2 _ hl, show (47 : Int32) = nI 47 from rfl, nx_raw hby hl (by omega)]
        refine ⟨nI_inL (by omega) (by omega), fun w => ?_, fun w => ?_⟩
        · exact j53 false (by symm; exact decide_eq_false (show ¬ nxc t len a = 47 from w))
        · exact j53 true (by symm; exact decide_eq_true (show nxc t len a = 47 from w))
      refine s_X0_readU_4 hp ⟨fun w => absurd P.2.2.2.1 w, fun _ => ok_nextV (u := s + 1) hp P (fun h1 f1 P1 => ⟨fun c => j29 (Or.inl c) h1 f1 P1, fun c => ok_nextV (u := s + 1) hp P1 (fun h2 f2 P2 => ?_)⟩)⟩
      rw [nxc_skp]
      rw [skp_skp] at P2
      refine ⟨fun c2 => qV (q h2 ?_), fun c2 => j29 (Or.inr c2) h2 (f1.tr f2) P2⟩
      rw [if_neg (fun w => w.elim c c2)] at hv
      injection hv with hv
      rw [← hv]
      exact ⟨(f1.tr f2).mono (by omega), P2, (Hi.vz (f1.tr f2) (by omega)), gi⟩
end
