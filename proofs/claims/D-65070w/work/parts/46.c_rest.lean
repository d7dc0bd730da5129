set_option maxRecDepth 100000
theorem dX0_hanging_0 : decode cX0_hanging 0 = .ok (.iload_n 1, 1) := by decide +kernel
theorem dX0_hanging_1 : decode cX0_hanging 1 = .ok (.iconst 1, 1) := by decide +kernel
theorem dX0_hanging_2 : decode cX0_hanging 2 = .ok (.iadd, 1) := by decide +kernel
theorem dX0_hanging_3 : decode cX0_hanging 3 = .ok (.iload_n 2, 1) := by decide +kernel
theorem dX0_hanging_4 : decode cX0_hanging 4 = .ok (.iconst 1, 1) := by decide +kernel
theorem dX0_hanging_5 : decode cX0_hanging 5 = .ok (.iadd, 1) := by decide +kernel
theorem dX0_hanging_6 : decode cX0_hanging 6 = .ok (.imul, 1) := by decide +kernel
theorem dX0_hanging_7 : decode cX0_hanging 7 = .ok (.istore_n 3, 1) := by decide +kernel
theorem dX0_hanging_8 : decode cX0_hanging 8 = .ok (.aload_n 0, 1) := by decide +kernel
theorem dX0_hanging_9 : decode cX0_hanging 9 = .ok (.getfield 854, 3) := by decide +kernel
theorem dX0_hanging_12 : decode cX0_hanging 12 = .ok (.iload_n 1, 1) := by decide +kernel
theorem dX0_hanging_13 : decode cX0_hanging 13 = .ok (.isub, 1) := by decide +kernel
theorem dX0_hanging_14 : decode cX0_hanging 14 = .ok (.istore 4, 2) := by decide +kernel
theorem dX0_hanging_16 : decode cX0_hanging 16 = .ok (.iconst 0, 1) := by decide +kernel
theorem dX0_hanging_17 : decode cX0_hanging 17 = .ok (.istore 5, 2) := by decide +kernel
theorem dX0_hanging_19 : decode cX0_hanging 19 = .ok (.iload 5, 2) := by decide +kernel
theorem dX0_hanging_21 : decode cX0_hanging 21 = .ok (.iload 4, 2) := by decide +kernel
theorem dX0_hanging_23 : decode cX0_hanging 23 = .ok (.if_icmp .ge 79, 3) := by decide +kernel
theorem dX0_hanging_26 : decode cX0_hanging 26 = .ok (.iconst 0, 1) := by decide +kernel
theorem dX0_hanging_27 : decode cX0_hanging 27 = .ok (.istore 6, 2) := by decide +kernel
theorem dX0_hanging_29 : decode cX0_hanging 29 = .ok (.iload 6, 2) := by decide +kernel
theorem dX0_hanging_31 : decode cX0_hanging 31 = .ok (.iload_n 1, 1) := by decide +kernel
theorem dX0_hanging_32 : decode cX0_hanging 32 = .ok (.if_icmp .gt 64, 3) := by decide +kernel
theorem dX0_hanging_35 : decode cX0_hanging 35 = .ok (.aload_n 0, 1) := by decide +kernel
theorem dX0_hanging_36 : decode cX0_hanging 36 = .ok (.getfield 479, 3) := by decide +kernel
theorem dX0_hanging_39 : decode cX0_hanging 39 = .ok (.iload 5, 2) := by decide +kernel
theorem dX0_hanging_41 : decode cX0_hanging 41 = .ok (.iload 6, 2) := by decide +kernel
theorem dX0_hanging_43 : decode cX0_hanging 43 = .ok (.iadd, 1) := by decide +kernel
theorem dX0_hanging_44 : decode cX0_hanging 44 = .ok (.iaload, 1) := by decide +kernel
theorem dX0_hanging_45 : decode cX0_hanging 45 = .ok (.istore 7, 2) := by decide +kernel
theorem dX0_hanging_47 : decode cX0_hanging 47 = .ok (.iconst 0, 1) := by decide +kernel
theorem dX0_hanging_48 : decode cX0_hanging 48 = .ok (.istore 8, 2) := by decide +kernel
theorem dX0_hanging_50 : decode cX0_hanging 50 = .ok (.iload 8, 2) := by decide +kernel
theorem dX0_hanging_52 : decode cX0_hanging 52 = .ok (.iload_n 2, 1) := by decide +kernel
theorem dX0_hanging_53 : decode cX0_hanging 53 = .ok (.if_icmp .gt 37, 3) := by decide +kernel
theorem dX0_hanging_56 : decode cX0_hanging 56 = .ok (.aload_n 0, 1) := by decide +kernel
theorem dX0_hanging_57 : decode cX0_hanging 57 = .ok (.getfield 484, 3) := by decide +kernel
theorem dX0_hanging_60 : decode cX0_hanging 60 = .ok (.iload 5, 2) := by decide +kernel
theorem dX0_hanging_62 : decode cX0_hanging 62 = .ok (.aaload, 1) := by decide +kernel
theorem dX0_hanging_63 : decode cX0_hanging 63 = .ok (.iload 6, 2) := by decide +kernel
theorem dX0_hanging_65 : decode cX0_hanging 65 = .ok (.iload_n 2, 1) := by decide +kernel
theorem dX0_hanging_66 : decode cX0_hanging 66 = .ok (.iconst 1, 1) := by decide +kernel
theorem dX0_hanging_67 : decode cX0_hanging 67 = .ok (.iadd, 1) := by decide +kernel
theorem dX0_hanging_68 : decode cX0_hanging 68 = .ok (.imul, 1) := by decide +kernel
theorem dX0_hanging_69 : decode cX0_hanging 69 = .ok (.iload 8, 2) := by decide +kernel
theorem dX0_hanging_71 : decode cX0_hanging 71 = .ok (.iadd, 1) := by decide +kernel
theorem dX0_hanging_72 : decode cX0_hanging 72 = .ok (.iload 7, 2) := by decide +kernel
theorem dX0_hanging_74 : decode cX0_hanging 74 = .ok (.iastore, 1) := by decide +kernel
theorem dX0_hanging_75 : decode cX0_hanging 75 = .ok (.iload 7, 2) := by decide +kernel
theorem dX0_hanging_77 : decode cX0_hanging 77 = .ok (.iload 5, 2) := by decide +kernel
theorem dX0_hanging_79 : decode cX0_hanging 79 = .ok (.invokestatic 6, 3) := by decide +kernel
theorem dX0_hanging_82 : decode cX0_hanging 82 = .ok (.istore 7, 2) := by decide +kernel
theorem dX0_hanging_84 : decode cX0_hanging 84 = .ok (.iinc 8 1, 3) := by decide +kernel
theorem dX0_hanging_87 : decode cX0_hanging 87 = .ok (.goto (-37), 3) := by decide +kernel
theorem dX0_hanging_90 : decode cX0_hanging 90 = .ok (.iinc 6 1, 3) := by decide +kernel
theorem dX0_hanging_93 : decode cX0_hanging 93 = .ok (.goto (-64), 3) := by decide +kernel
theorem dX0_hanging_96 : decode cX0_hanging 96 = .ok (.iinc 5 1, 3) := by decide +kernel
theorem dX0_hanging_99 : decode cX0_hanging 99 = .ok (.goto (-80), 3) := by decide +kernel
theorem dX0_hanging_102 : decode cX0_hanging 102 = .ok (.iconst 0, 1) := by decide +kernel
theorem dX0_hanging_103 : decode cX0_hanging 103 = .ok (.istore 5, 2) := by decide +kernel
theorem dX0_hanging_105 : decode cX0_hanging 105 = .ok (.iconst 0, 1) := by decide +kernel
theorem dX0_hanging_106 : decode cX0_hanging 106 = .ok (.istore 6, 2) := by decide +kernel
theorem dX0_hanging_108 : decode cX0_hanging 108 = .ok (.iload 6, 2) := by decide +kernel
theorem dX0_hanging_110 : decode cX0_hanging 110 = .ok (.iload_n 3, 1) := by decide +kernel
theorem dX0_hanging_111 : decode cX0_hanging 111 = .ok (.if_icmp .ge 104, 3) := by decide +kernel
theorem dX0_hanging_114 : decode cX0_hanging 114 = .ok (.iload 5, 2) := by decide +kernel
theorem dX0_hanging_116 : decode cX0_hanging 116 = .ok (.istore 7, 2) := by decide +kernel
theorem dX0_hanging_118 : decode cX0_hanging 118 = .ok (.iload 7, 2) := by decide +kernel
theorem dX0_hanging_120 : decode cX0_hanging 120 = .ok (.iload 4, 2) := by decide +kernel
theorem dX0_hanging_122 : decode cX0_hanging 122 = .ok (.if_icmp .ge 22, 3) := by decide +kernel
theorem dX0_hanging_125 : decode cX0_hanging 125 = .ok (.aload_n 0, 1) := by decide +kernel
theorem dX0_hanging_126 : decode cX0_hanging 126 = .ok (.getfield 484, 3) := by decide +kernel
theorem dX0_hanging_129 : decode cX0_hanging 129 = .ok (.iload 7, 2) := by decide +kernel
theorem dX0_hanging_131 : decode cX0_hanging 131 = .ok (.aaload, 1) := by decide +kernel
theorem dX0_hanging_132 : decode cX0_hanging 132 = .ok (.iload 6, 2) := by decide +kernel
theorem dX0_hanging_134 : decode cX0_hanging 134 = .ok (.iaload, 1) := by decide +kernel
theorem dX0_hanging_135 : decode cX0_hanging 135 = .ok (.ifCond .ne 9, 3) := by decide +kernel
theorem dX0_hanging_138 : decode cX0_hanging 138 = .ok (.iinc 7 1, 3) := by decide +kernel
theorem dX0_hanging_141 : decode cX0_hanging 141 = .ok (.goto (-23), 3) := by decide +kernel
theorem dX0_hanging_144 : decode cX0_hanging 144 = .ok (.iload 7, 2) := by decide +kernel
theorem dX0_hanging_146 : decode cX0_hanging 146 = .ok (.iload 4, 2) := by decide +kernel
theorem dX0_hanging_148 : decode cX0_hanging 148 = .ok (.if_icmp .ne 6, 3) := by decide +kernel
theorem dX0_hanging_151 : decode cX0_hanging 151 = .ok (.iload 6, 2) := by decide +kernel
theorem dX0_hanging_153 : decode cX0_hanging 153 = .ok (.ireturn, 1) := by decide +kernel
theorem dX0_hanging_154 : decode cX0_hanging 154 = .ok (.aload_n 0, 1) := by decide +kernel
theorem dX0_hanging_155 : decode cX0_hanging 155 = .ok (.getfield 484, 3) := by decide +kernel
theorem dX0_hanging_158 : decode cX0_hanging 158 = .ok (.iload 7, 2) := by decide +kernel
theorem dX0_hanging_160 : decode cX0_hanging 160 = .ok (.aaload, 1) := by decide +kernel
theorem dX0_hanging_161 : decode cX0_hanging 161 = .ok (.astore 8, 2) := by decide +kernel
theorem dX0_hanging_163 : decode cX0_hanging 163 = .ok (.aload_n 0, 1) := by decide +kernel
theorem dX0_hanging_164 : decode cX0_hanging 164 = .ok (.getfield 484, 3) := by decide +kernel
theorem dX0_hanging_167 : decode cX0_hanging 167 = .ok (.iload 7, 2) := by decide +kernel
theorem dX0_hanging_169 : decode cX0_hanging 169 = .ok (.aload_n 0, 1) := by decide +kernel
theorem dX0_hanging_170 : decode cX0_hanging 170 = .ok (.getfield 484, 3) := by decide +kernel
theorem dX0_hanging_173 : decode cX0_hanging 173 = .ok (.iload 5, 2) := by decide +kernel
theorem dX0_hanging_175 : decode cX0_hanging 175 = .ok (.aaload, 1) := by decide +kernel
theorem dX0_hanging_176 : decode cX0_hanging 176 = .ok (.aastore, 1) := by decide +kernel
theorem dX0_hanging_177 : decode cX0_hanging 177 = .ok (.aload_n 0, 1) := by decide +kernel
theorem dX0_hanging_178 : decode cX0_hanging 178 = .ok (.getfield 484, 3) := by decide +kernel
theorem dX0_hanging_181 : decode cX0_hanging 181 = .ok (.iload 5, 2) := by decide +kernel
theorem dX0_hanging_183 : decode cX0_hanging 183 = .ok (.aload 8, 2) := by decide +kernel
theorem dX0_hanging_185 : decode cX0_hanging 185 = .ok (.aastore, 1) := by decide +kernel
theorem dX0_hanging_186 : decode cX0_hanging 186 = .ok (.aload_n 0, 1) := by decide +kernel
theorem dX0_hanging_187 : decode cX0_hanging 187 = .ok (.iload 5, 2) := by decide +kernel
theorem dX0_hanging_189 : decode cX0_hanging 189 = .ok (.iload 6, 2) := by decide +kernel
theorem dX0_hanging_191 : decode cX0_hanging 191 = .ok (.iload 4, 2) := by decide +kernel
theorem dX0_hanging_193 : decode cX0_hanging 193 = .ok (.iload_n 3, 1) := by decide +kernel
theorem dX0_hanging_194 : decode cX0_hanging 194 = .ok (.invokevirtual 857, 3) := by decide +kernel
theorem dX0_hanging_197 : decode cX0_hanging 197 = .ok (.aload_n 0, 1) := by decide +kernel
theorem dX0_hanging_198 : decode cX0_hanging 198 = .ok (.getfield 487, 3) := by decide +kernel
theorem dX0_hanging_201 : decode cX0_hanging 201 = .ok (.iload 6, 2) := by decide +kernel
theorem dX0_hanging_203 : decode cX0_hanging 203 = .ok (.iload 5, 2) := by decide +kernel
theorem dX0_hanging_205 : decode cX0_hanging 205 = .ok (.iastore, 1) := by decide +kernel
theorem dX0_hanging_206 : decode cX0_hanging 206 = .ok (.iinc 5 1, 3) := by decide +kernel
theorem dX0_hanging_209 : decode cX0_hanging 209 = .ok (.iinc 6 1, 3) := by decide +kernel
theorem dX0_hanging_212 : decode cX0_hanging 212 = .ok (.goto (-104), 3) := by decide +kernel
theorem dX0_hanging_215 : decode cX0_hanging 215 = .ok (.iconst (-1), 1) := by decide +kernel
theorem dX0_hanging_216 : decode cX0_hanging 216 = .ok (.ireturn, 1) := by decide +kernel
abbrev W_X0_hanging (g : GX) (d : Nat) (av : List Value) (Q : QT) (n : Nat) (pc : Nat) (ls : LV) (stk : List Value) (h : Hp) : Prop := RJ g m_X0_hanging (d + 1) 0 0 av Q pc ls stk n h 0 0
theorem s_X0_hanging_0 {g : GX} {d : Nat} {av : List Value} {Q : QT} {n : Nat} {h : Hp} {x1 : Int32} {x2 : Int32} (hp : g.2.2.2.2 = true)  (H : W_X0_hanging g d av Q n 19 [some (.ref 0), some (.int x1), some (.int x2), some (.int ((x1 + (1 : Int32)) * (x2 + (1 : Int32)))), some (.int ((ri h 0 69) - x1)), some (.int (0 : Int32)), none, none, none] [] h) : W_X0_hanging g d av Q n 0 [some (.ref 0), some (.int x1), some (.int x2), none, none, none, none, none, none] [] h := by
  refine r_iload_n dX0_hanging_0 rfl rfl ?_
  refine r_iconst (v := (1 : Int32)) dX0_hanging_1 rfl ?_
  refine r_iadd dX0_hanging_2 ?_
  refine r_iload_n dX0_hanging_3 rfl rfl ?_
  refine r_iconst (v := (1 : Int32)) dX0_hanging_4 rfl ?_
  refine r_iadd dX0_hanging_5 ?_
  refine r_imul dX0_hanging_6 ?_
  refine r_istore_n (ls2 := [some (.ref 0), some (.int x1), some (.int x2), some (.int ((x1 + (1 : Int32)) * (x2 + (1 : Int32)))), none, none, none, none, none]) dX0_hanging_7 rfl (by decide) rfl ?_
  refine r_aload_n dX0_hanging_8 rfl rfl ?_
  refine m_getI hp fw_X0_854 dX0_hanging_9 rfl ly_0 ?_
  refine r_iload_n dX0_hanging_12 rfl rfl ?_
  refine r_isub dX0_hanging_13 ?_
  refine r_istore (ls2 := [some (.ref 0), some (.int x1), some (.int x2), some (.int ((x1 + (1 : Int32)) * (x2 + (1 : Int32)))), some (.int ((ri h 0 69) - x1)), none, none, none, none]) dX0_hanging_14 (by decide) rfl ?_
  refine r_iconst (v := (0 : Int32)) dX0_hanging_16 rfl ?_
  refine r_istore (ls2 := [some (.ref 0), some (.int x1), some (.int x2), some (.int ((x1 + (1 : Int32)) * (x2 + (1 : Int32)))), some (.int ((ri h 0 69) - x1)), some (.int (0 : Int32)), none, none, none]) dX0_hanging_17 (by decide) rfl ?_
  exact H
theorem s_X0_hanging_19 {g : GX} {d : Nat} {av : List Value} {Q : QT} {n : Nat} {h : Hp} {x1 : Int32} {x2 : Int32} {x3 : Int32} {x4 : Int32} {x5 : Int32} (hp : g.2.2.2.2 = true)  (H : ((x4 ≤ x5) → (W_X0_hanging g d av Q n 108 [some (.ref 0), none, none, some (.int x3), some (.int x4), some (.int (0 : Int32)), some (.int (0 : Int32)), none, none] [] h)) ∧ ((¬ x4 ≤ x5) → (W_X0_hanging g d av Q n 29 [some (.ref 0), some (.int x1), some (.int x2), some (.int x3), some (.int x4), some (.int x5), some (.int (0 : Int32)), none, none] [] h))) : W_X0_hanging g d av Q n 19 [some (.ref 0), some (.int x1), some (.int x2), some (.int x3), some (.int x4), some (.int x5), none, none, none] [] h := by
  refine r_iload dX0_hanging_19 rfl ?_
  refine r_iload dX0_hanging_21 rfl ?_
  refine r_icmp_ge (tgt := 102) dX0_hanging_23 rfl (fun cH => ?_) (fun cH => ?_)
  · replace H := H.1 cH
    refine r_iconst (v := (0 : Int32)) dX0_hanging_102 rfl ?_
    refine r_istore (ls2 := [some (.ref 0), some (.int x1), some (.int x2), some (.int x3), some (.int x4), some (.int (0 : Int32)), none, none, none]) dX0_hanging_103 (by decide) rfl ?_
    refine r_iconst (v := (0 : Int32)) dX0_hanging_105 rfl ?_
    refine r_istore (ls2 := [some (.ref 0), some (.int x1), some (.int x2), some (.int x3), some (.int x4), some (.int (0 : Int32)), some (.int (0 : Int32)), none, none]) dX0_hanging_106 (by decide) rfl ?_
    refine r_prune [true, false, false, true, true, true, true, false, false] (ls2 := [some (.ref 0), none, none, some (.int x3), some (.int x4), some (.int (0 : Int32)), some (.int (0 : Int32)), none, none]) rfl ?_
    exact H
  · replace H := H.2 cH
    refine r_iconst (v := (0 : Int32)) dX0_hanging_26 rfl ?_
    refine r_istore (ls2 := [some (.ref 0), some (.int x1), some (.int x2), some (.int x3), some (.int x4), some (.int x5), some (.int (0 : Int32)), none, none]) dX0_hanging_27 (by decide) rfl ?_
    exact H
theorem s_X0_hanging_29 {g : GX} {d : Nat} {av : List Value} {Q : QT} {n : Nat} {h : Hp} {x1 : Int32} {x2 : Int32} {x3 : Int32} {x4 : Int32} {x5 : Int32} {x6 : Int32} (hp : g.2.2.2.2 = true)  (H : ((x1 < x6) → (W_X0_hanging g d av Q n 19 [some (.ref 0), some (.int x1), some (.int x2), some (.int x3), some (.int x4), some (.int (x5 + (1 : Int32))), none, none, none] [] h)) ∧ ((¬ x1 < x6) → (vp_in (x5 + x6) 60 ∧ (W_X0_hanging g d av Q n 50 [some (.ref 0), some (.int x1), some (.int x2), some (.int x3), some (.int x4), some (.int x5), some (.int x6), some (.int (ri h 1114 ((x5 + x6)).toNatClampNeg)), some (.int (0 : Int32))] [] h)))) : W_X0_hanging g d av Q n 29 [some (.ref 0), some (.int x1), some (.int x2), some (.int x3), some (.int x4), some (.int x5), some (.int x6), none, none] [] h := by
  refine r_iload dX0_hanging_29 rfl ?_
  refine r_iload_n dX0_hanging_31 rfl rfl ?_
  refine r_icmp_gt (tgt := 96) dX0_hanging_32 rfl (fun cH => ?_) (fun cH => ?_)
  · replace H := H.1 cH
    refine r_iinc (v := (x5 + (1 : Int32))) (ls2 := [some (.ref 0), some (.int x1), some (.int x2), some (.int x3), some (.int x4), some (.int (x5 + (1 : Int32))), some (.int x6), none, none]) dX0_hanging_96 rfl rfl (by decide) rfl ?_
    refine r_goto (tgt := 19) dX0_hanging_99 rfl ?_
    refine r_prune [true, true, true, true, true, true, false, false, false] (ls2 := [some (.ref 0), some (.int x1), some (.int x2), some (.int x3), some (.int x4), some (.int (x5 + (1 : Int32))), none, none, none]) rfl ?_
    exact H
  · replace H := H.2 cH
    refine r_aload_n dX0_hanging_35 rfl rfl ?_
    refine m_getF (x := 1114) hp fw_X0_479 dX0_hanging_36 rfl ly_0 (ff_0_68 ly_0) ?_
    refine r_iload dX0_hanging_39 rfl ?_
    refine r_iload dX0_hanging_41 rfl ?_
    refine r_iadd dX0_hanging_43 ?_
    refine m_iald hp dX0_hanging_44 (lf_0_68 ly_0) H.1 ?_
    replace H := H.2
    refine r_istore (ls2 := [some (.ref 0), some (.int x1), some (.int x2), some (.int x3), some (.int x4), some (.int x5), some (.int x6), some (.int (ri h 1114 ((x5 + x6)).toNatClampNeg)), none]) dX0_hanging_45 (by decide) rfl ?_
    refine r_iconst (v := (0 : Int32)) dX0_hanging_47 rfl ?_
    refine r_istore (ls2 := [some (.ref 0), some (.int x1), some (.int x2), some (.int x3), some (.int x4), some (.int x5), some (.int x6), some (.int (ri h 1114 ((x5 + x6)).toNatClampNeg)), some (.int (0 : Int32))]) dX0_hanging_48 (by decide) rfl ?_
    exact H
theorem s_X0_hanging_50 {g : GX} {d : Nat} {av : List Value} {Q : QT} {n : Nat} {h : Hp} {x1 : Int32} {x2 : Int32} {x3 : Int32} {x4 : Int32} {x5 : Int32} {x6 : Int32} {x7 : Int32} {x8 : Int32} (hp : g.2.2.2.2 = true)  (H : ((x2 < x8) → (W_X0_hanging g d av Q n 29 [some (.ref 0), some (.int x1), some (.int x2), some (.int x3), some (.int x4), some (.int x5), some (.int (x6 + (1 : Int32))), none, none] [] h)) ∧ ((¬ x2 < x8) → (vp_in x5 60 ∧ ∃ r1 Lr1, rr h 1115 (x5).toNatClampNeg = some r1 ∧ lay r1 = (1, Lr1, 0) ∧ (vp_in ((x6 * (x2 + (1 : Int32))) + x8) Lr1 ∧ ∀ h2, h2 = wi h r1 (((x6 * (x2 + (1 : Int32))) + x8)).toNatClampNeg x7 → (CallI g m_X0_times d [.int x7, .int x5] n h2 (fun v3 h3 => (W_X0_hanging g d av Q n 50 [some (.ref 0), some (.int x1), some (.int x2), some (.int x3), some (.int x4), some (.int x5), some (.int x6), some (.int v3), some (.int (x8 + (1 : Int32)))] [] h3))))))) : W_X0_hanging g d av Q n 50 [some (.ref 0), some (.int x1), some (.int x2), some (.int x3), some (.int x4), some (.int x5), some (.int x6), some (.int x7), some (.int x8)] [] h := by
  refine r_iload dX0_hanging_50 rfl ?_
  refine r_iload_n dX0_hanging_52 rfl rfl ?_
  refine r_icmp_gt (tgt := 90) dX0_hanging_53 rfl (fun cH => ?_) (fun cH => ?_)
  · replace H := H.1 cH
    refine r_iinc (v := (x6 + (1 : Int32))) (ls2 := [some (.ref 0), some (.int x1), some (.int x2), some (.int x3), some (.int x4), some (.int x5), some (.int (x6 + (1 : Int32))), some (.int x7), some (.int x8)]) dX0_hanging_90 rfl rfl (by decide) rfl ?_
    refine r_goto (tgt := 29) dX0_hanging_93 rfl ?_
    refine r_prune [true, true, true, true, true, true, true, false, false] (ls2 := [some (.ref 0), some (.int x1), some (.int x2), some (.int x3), some (.int x4), some (.int x5), some (.int (x6 + (1 : Int32))), none, none]) rfl ?_
    exact H
  · replace H := H.2 cH
    refine r_aload_n dX0_hanging_56 rfl rfl ?_
    refine m_getF (x := 1115) hp fw_X0_484 dX0_hanging_57 rfl ly_0 (ff_0_70 ly_0) ?_
    refine r_iload dX0_hanging_60 rfl ?_
    have hir1 := H.1
    obtain ⟨r1, Lr1, er1, tr1, H⟩ := H.2
    refine m_aalM (x := r1) hp dX0_hanging_62 (lf_0_70 ly_0) rfl rfl (lu_0_70 ly_0) hir1 er1 ?_
    refine r_iload dX0_hanging_63 rfl ?_
    refine r_iload_n dX0_hanging_65 rfl rfl ?_
    refine r_iconst (v := (1 : Int32)) dX0_hanging_66 rfl ?_
    refine r_iadd dX0_hanging_67 ?_
    refine r_imul dX0_hanging_68 ?_
    refine r_iload dX0_hanging_69 rfl ?_
    refine r_iadd dX0_hanging_71 ?_
    refine r_iload dX0_hanging_72 rfl ?_
    refine m_iast hp dX0_hanging_74 tr1 H.1 (fun h2 eh2 => ?_)
    replace H := H.2 h2 eh2
    refine r_iload dX0_hanging_75 rfl ?_
    refine r_iload dX0_hanging_77 rfl ?_
    refine k_SI (As := [.int x7, .int x5]) (stk := []) cs_X0_6 dX0_hanging_79 rfl (Nat.le_of_ble_eq_true rfl) (H.mono (fun v3 h3 H => ?_)) ⟨Nat.le_refl _, Nat.le_refl _⟩
    refine r_istore (ls2 := [some (.ref 0), some (.int x1), some (.int x2), some (.int x3), some (.int x4), some (.int x5), some (.int x6), some (.int v3), some (.int x8)]) dX0_hanging_82 (by decide) rfl ?_
    refine r_iinc (v := (x8 + (1 : Int32))) (ls2 := [some (.ref 0), some (.int x1), some (.int x2), some (.int x3), some (.int x4), some (.int x5), some (.int x6), some (.int v3), some (.int (x8 + (1 : Int32)))]) dX0_hanging_84 rfl rfl (by decide) rfl ?_
    refine r_goto (tgt := 50) dX0_hanging_87 rfl ?_
    exact H
theorem s_X0_hanging_108 {g : GX} {d : Nat} {av : List Value} {Q : QT} {n : Nat} {h : Hp} {x3 : Int32} {x4 : Int32} {x5 : Int32} {x6 : Int32} (hp : g.2.2.2.2 = true)  (H : ((x3 ≤ x6) → (Q (some (.int (-1 : Int32))) n h)) ∧ ((¬ x3 ≤ x6) → (W_X0_hanging g d av Q n 118 [some (.ref 0), none, none, some (.int x3), some (.int x4), some (.int x5), some (.int x6), some (.int x5), none] [] h))) : W_X0_hanging g d av Q n 108 [some (.ref 0), none, none, some (.int x3), some (.int x4), some (.int x5), some (.int x6), none, none] [] h := by
  refine r_iload dX0_hanging_108 rfl ?_
  refine r_iload_n dX0_hanging_110 rfl rfl ?_
  refine r_icmp_ge (tgt := 215) dX0_hanging_111 rfl (fun cH => ?_) (fun cH => ?_)
  · replace H := H.1 cH
    refine r_iconst (v := (-1 : Int32)) dX0_hanging_215 rfl ?_
    exact r_zret dX0_hanging_216 rfl rfl (Nat.le_refl _) (Nat.le_refl _) H
  · replace H := H.2 cH
    refine r_iload dX0_hanging_114 rfl ?_
    refine r_istore (ls2 := [some (.ref 0), none, none, some (.int x3), some (.int x4), some (.int x5), some (.int x6), some (.int x5), none]) dX0_hanging_116 (by decide) rfl ?_
    exact H
theorem s_X0_hanging_118 {g : GX} {d : Nat} {av : List Value} {Q : QT} {n : Nat} {h : Hp} {x3 : Int32} {x4 : Int32} {x5 : Int32} {x6 : Int32} {x7 : Int32} (hp : g.2.2.2.2 = true)  (H : ((x4 ≤ x7) → (W_X0_hanging g d av Q n 144 [some (.ref 0), none, none, some (.int x3), some (.int x4), some (.int x5), some (.int x6), some (.int x7), none] [] h)) ∧ ((¬ x4 ≤ x7) → (vp_in x7 60 ∧ ∃ r1 Lr1, rr h 1115 (x7).toNatClampNeg = some r1 ∧ lay r1 = (1, Lr1, 0) ∧ (vp_in x6 Lr1 ∧ (((¬ (ri h r1 (x6).toNatClampNeg) = (0 : Int32)) → (W_X0_hanging g d av Q n 144 [some (.ref 0), none, none, some (.int x3), some (.int x4), some (.int x5), some (.int x6), some (.int x7), none] [] h)) ∧ (((ri h r1 (x6).toNatClampNeg) = (0 : Int32)) → (W_X0_hanging g d av Q n 118 [some (.ref 0), none, none, some (.int x3), some (.int x4), some (.int x5), some (.int x6), some (.int (x7 + (1 : Int32))), none] [] h))))))) : W_X0_hanging g d av Q n 118 [some (.ref 0), none, none, some (.int x3), some (.int x4), some (.int x5), some (.int x6), some (.int x7), none] [] h := by
  refine r_iload dX0_hanging_118 rfl ?_
  refine r_iload dX0_hanging_120 rfl ?_
  refine r_icmp_ge (tgt := 144) dX0_hanging_122 rfl (fun cH => ?_) (fun cH => ?_)
  · replace H := H.1 cH
    exact H
  · replace H := H.2 cH
    refine r_aload_n dX0_hanging_125 rfl rfl ?_
    refine m_getF (x := 1115) hp fw_X0_484 dX0_hanging_126 rfl ly_0 (ff_0_70 ly_0) ?_
    refine r_iload dX0_hanging_129 rfl ?_
    have hir1 := H.1
    obtain ⟨r1, Lr1, er1, tr1, H⟩ := H.2
    refine m_aalM (x := r1) hp dX0_hanging_131 (lf_0_70 ly_0) rfl rfl (lu_0_70 ly_0) hir1 er1 ?_
    refine r_iload dX0_hanging_132 rfl ?_
    refine m_iald hp dX0_hanging_134 tr1 H.1 ?_
    replace H := H.2
    refine r_if_ne (tgt := 144) dX0_hanging_135 rfl (fun cH => ?_) (fun cH => ?_)
    · replace H := H.1 cH
      exact H
    · replace H := H.2 cH
      refine r_iinc (v := (x7 + (1 : Int32))) (ls2 := [some (.ref 0), none, none, some (.int x3), some (.int x4), some (.int x5), some (.int x6), some (.int (x7 + (1 : Int32))), none]) dX0_hanging_138 rfl rfl (by decide) rfl ?_
      refine r_goto (tgt := 118) dX0_hanging_141 rfl ?_
      exact H
theorem s_X0_hanging_144 {g : GX} {d : Nat} {av : List Value} {Q : QT} {n : Nat} {h : Hp} {x3 : Int32} {x4 : Int32} {x5 : Int32} {x6 : Int32} {x7 : Int32} (hp : g.2.2.2.2 = true)  (H : ((¬ x7 = x4) → (vp_in x7 60 ∧ ∃ r1 Lr1, rr h 1115 (x7).toNatClampNeg = some r1 ∧ lay r1 = (1, Lr1, 0) ∧ (vp_in x5 60 ∧ ∃ r2 Lr2, rr h 1115 (x5).toNatClampNeg = some r2 ∧ lay r2 = (1, Lr2, 0) ∧ (vp_in x7 60 ∧ fin 1115 (x7).toNatClampNeg = none ∧ ∀ h3, h3 = wr h 1115 (x7).toNatClampNeg (some r2) → (vp_in x5 60 ∧ fin 1115 (x5).toNatClampNeg = none ∧ ∀ h4, h4 = wr h3 1115 (x5).toNatClampNeg (some r1) → (CallV g m_X0_clearColumn d [.ref 0, .int x5, .int x6, .int x4, .int x3] n h4 (fun h5 => (vp_in x6 45 ∧ ∀ h6, h6 = wi h5 1176 (x6).toNatClampNeg x5 → (W_X0_hanging g d av Q n 108 [some (.ref 0), none, none, some (.int x3), some (.int x4), some (.int (x5 + (1 : Int32))), some (.int (x6 + (1 : Int32))), none, none] [] h6))))))))) ∧ ((x7 = x4) → (Q (some (.int x6)) n h))) : W_X0_hanging g d av Q n 144 [some (.ref 0), none, none, some (.int x3), some (.int x4), some (.int x5), some (.int x6), some (.int x7), none] [] h := by
  refine r_iload dX0_hanging_144 rfl ?_
  refine r_iload dX0_hanging_146 rfl ?_
  refine r_icmp_ne (tgt := 154) dX0_hanging_148 rfl (fun cH => ?_) (fun cH => ?_)
  · replace H := H.1 cH
    refine r_aload_n dX0_hanging_154 rfl rfl ?_
    refine m_getF (x := 1115) hp fw_X0_484 dX0_hanging_155 rfl ly_0 (ff_0_70 ly_0) ?_
    refine r_iload dX0_hanging_158 rfl ?_
    have hir1 := H.1
    obtain ⟨r1, Lr1, er1, tr1, H⟩ := H.2
    refine m_aalM (x := r1) hp dX0_hanging_160 (lf_0_70 ly_0) rfl rfl (lu_0_70 ly_0) hir1 er1 ?_
    refine r_astore (ls2 := [some (.ref 0), none, none, some (.int x3), some (.int x4), some (.int x5), some (.int x6), some (.int x7), some (.ref r1)]) dX0_hanging_161 (by decide) rfl ?_
    refine r_aload_n dX0_hanging_163 rfl rfl ?_
    refine m_getF (x := 1115) hp fw_X0_484 dX0_hanging_164 rfl ly_0 (ff_0_70 ly_0) ?_
    refine r_iload dX0_hanging_167 rfl ?_
    refine r_aload_n dX0_hanging_169 rfl rfl ?_
    refine m_getF (x := 1115) hp fw_X0_484 dX0_hanging_170 rfl ly_0 (ff_0_70 ly_0) ?_
    refine r_iload dX0_hanging_173 rfl ?_
    have hir2 := H.1
    obtain ⟨r2, Lr2, er2, tr2, H⟩ := H.2
    refine m_aalM (x := r2) hp dX0_hanging_175 (lf_0_70 ly_0) rfl rfl (lu_0_70 ly_0) hir2 er2 ?_
    refine m_aastR hp dX0_hanging_176 (lf_0_70 ly_0) rfl rfl (Or.inl rfl) ao_int tr2 (lu_0_70 ly_0) (lay_ltA tr2) H.1 H.2.1 (fun h3 eh3 => ?_)
    replace H := H.2.2 h3 eh3
    refine r_aload_n dX0_hanging_177 rfl rfl ?_
    refine m_getF (x := 1115) hp fw_X0_484 dX0_hanging_178 rfl ly_0 (ff_0_70 ly_0) ?_
    refine r_iload dX0_hanging_181 rfl ?_
    refine r_aload dX0_hanging_183 rfl ?_
    refine m_aastR hp dX0_hanging_185 (lf_0_70 ly_0) rfl rfl (Or.inl rfl) ao_int tr1 (lu_0_70 ly_0) (lay_ltA tr1) H.1 H.2.1 (fun h4 eh4 => ?_)
    replace H := H.2.2 h4 eh4
    refine r_aload_n dX0_hanging_186 rfl rfl ?_
    refine r_iload dX0_hanging_187 rfl ?_
    refine r_iload dX0_hanging_189 rfl ?_
    refine r_iload dX0_hanging_191 rfl ?_
    refine r_iload_n dX0_hanging_193 rfl rfl ?_
    refine k_VV (As := [.int x5, .int x6, .int x4, .int x3]) (stk := []) hp cv_X0_857 dX0_hanging_194 rfl (Nat.le_of_ble_eq_true rfl) ly_0 (H.mono (fun h5 H => ?_)) ⟨Nat.le_refl _, Nat.le_refl _⟩
    refine r_aload_n dX0_hanging_197 rfl rfl ?_
    refine m_getF (x := 1176) hp fw_X0_487 dX0_hanging_198 rfl ly_0 (ff_0_71 ly_0) ?_
    refine r_iload dX0_hanging_201 rfl ?_
    refine r_iload dX0_hanging_203 rfl ?_
    refine m_iast hp dX0_hanging_205 (lf_0_71 ly_0) H.1 (fun h6 eh6 => ?_)
    replace H := H.2 h6 eh6
    refine r_iinc (v := (x5 + (1 : Int32))) (ls2 := [some (.ref 0), none, none, some (.int x3), some (.int x4), some (.int (x5 + (1 : Int32))), some (.int x6), some (.int x7), some (.ref r1)]) dX0_hanging_206 rfl rfl (by decide) rfl ?_
    refine r_iinc (v := (x6 + (1 : Int32))) (ls2 := [some (.ref 0), none, none, some (.int x3), some (.int x4), some (.int (x5 + (1 : Int32))), some (.int (x6 + (1 : Int32))), some (.int x7), some (.ref r1)]) dX0_hanging_209 rfl rfl (by decide) rfl ?_
    refine r_goto (tgt := 108) dX0_hanging_212 rfl ?_
    refine r_prune [true, false, false, true, true, true, true, false, false] (ls2 := [some (.ref 0), none, none, some (.int x3), some (.int x4), some (.int (x5 + (1 : Int32))), some (.int (x6 + (1 : Int32))), none, none]) rfl ?_
    exact H
  · replace H := H.2 cH
    refine r_iload dX0_hanging_151 rfl ?_
    exact r_zret dX0_hanging_153 rfl rfl (Nat.le_refl _) (Nat.le_refl _) H
theorem dX7_clear_0 : decode cX7_clear 0 = .ok (.aload_n 0, 1) := by decide +kernel
theorem dX7_clear_1 : decode cX7_clear 1 = .ok (.invokevirtual 68, 3) := by decide +kernel
theorem dX7_clear_4 : decode cX7_clear 4 = .ok (.aload_n 0, 1) := by decide +kernel
theorem dX7_clear_5 : decode cX7_clear 5 = .ok (.iconst 0, 1) := by decide +kernel
theorem dX7_clear_6 : decode cX7_clear 6 = .ok (.putfield 71, 3) := by decide +kernel
theorem dX7_clear_9 : decode cX7_clear 9 = .ok (.aload_n 0, 1) := by decide +kernel
theorem dX7_clear_10 : decode cX7_clear 10 = .ok (.getfield 28, 3) := by decide +kernel
theorem dX7_clear_13 : decode cX7_clear 13 = .ok (.iconst 1, 1) := by decide +kernel
theorem dX7_clear_14 : decode cX7_clear 14 = .ok (.invokevirtual 74, 3) := by decide +kernel
theorem dX7_clear_17 : decode cX7_clear 17 = .ok (.iconst 0, 1) := by decide +kernel
theorem dX7_clear_18 : decode cX7_clear 18 = .ok (.istore_n 2, 1) := by decide +kernel
theorem dX7_clear_19 : decode cX7_clear 19 = .ok (.iload_n 2, 1) := by decide +kernel
theorem dX7_clear_20 : decode cX7_clear 20 = .ok (.aload_n 0, 1) := by decide +kernel
theorem dX7_clear_21 : decode cX7_clear 21 = .ok (.getfield 43, 3) := by decide +kernel
theorem dX7_clear_24 : decode cX7_clear 24 = .ok (.if_icmp .ge 140, 3) := by decide +kernel
theorem dX7_clear_27 : decode cX7_clear 27 = .ok (.aload_n 0, 1) := by decide +kernel
theorem dX7_clear_28 : decode cX7_clear 28 = .ok (.iload_n 2, 1) := by decide +kernel
theorem dX7_clear_29 : decode cX7_clear 29 = .ok (.invokevirtual 77, 3) := by decide +kernel
theorem dX7_clear_32 : decode cX7_clear 32 = .ok (.istore_n 3, 1) := by decide +kernel
theorem dX7_clear_33 : decode cX7_clear 33 = .ok (.aload_n 0, 1) := by decide +kernel
theorem dX7_clear_34 : decode cX7_clear 34 = .ok (.getfield 31, 3) := by decide +kernel
theorem dX7_clear_37 : decode cX7_clear 37 = .ok (.iload_n 2, 1) := by decide +kernel
theorem dX7_clear_38 : decode cX7_clear 38 = .ok (.iload_n 3, 1) := by decide +kernel
theorem dX7_clear_39 : decode cX7_clear 39 = .ok (.ifCond .ge 7, 3) := by decide +kernel
theorem dX7_clear_42 : decode cX7_clear 42 = .ok (.iconst (-1), 1) := by decide +kernel
theorem dX7_clear_43 : decode cX7_clear 43 = .ok (.goto 7, 3) := by decide +kernel
theorem dX7_clear_46 : decode cX7_clear 46 = .ok (.aload_n 0, 1) := by decide +kernel
theorem dX7_clear_47 : decode cX7_clear 47 = .ok (.getfield 71, 3) := by decide +kernel
theorem dX7_clear_50 : decode cX7_clear 50 = .ok (.iastore, 1) := by decide +kernel
theorem dX7_clear_51 : decode cX7_clear 51 = .ok (.iload_n 3, 1) := by decide +kernel
theorem dX7_clear_52 : decode cX7_clear 52 = .ok (.ifCond .ge 10, 3) := by decide +kernel
theorem dX7_clear_55 : decode cX7_clear 55 = .ok (.iload_n 2, 1) := by decide +kernel
theorem dX7_clear_56 : decode cX7_clear 56 = .ok (.iload_n 1, 1) := by decide +kernel
theorem dX7_clear_57 : decode cX7_clear 57 = .ok (.if_icmp .lt 101, 3) := by decide +kernel
theorem dX7_clear_60 : decode cX7_clear 60 = .ok (.iload_n 2, 1) := by decide +kernel
theorem dX7_clear_61 : decode cX7_clear 61 = .ok (.ireturn, 1) := by decide +kernel
theorem dX7_clear_62 : decode cX7_clear 62 = .ok (.aload_n 0, 1) := by decide +kernel
theorem dX7_clear_63 : decode cX7_clear 63 = .ok (.getfield 13, 3) := by decide +kernel
theorem dX7_clear_66 : decode cX7_clear 66 = .ok (.iload_n 3, 1) := by decide +kernel
theorem dX7_clear_67 : decode cX7_clear 67 = .ok (.aaload, 1) := by decide +kernel
theorem dX7_clear_68 : decode cX7_clear 68 = .ok (.astore 4, 2) := by decide +kernel
theorem dX7_clear_70 : decode cX7_clear 70 = .ok (.aload_n 0, 1) := by decide +kernel
theorem dX7_clear_71 : decode cX7_clear 71 = .ok (.getfield 13, 3) := by decide +kernel
theorem dX7_clear_74 : decode cX7_clear 74 = .ok (.iload_n 3, 1) := by decide +kernel
theorem dX7_clear_75 : decode cX7_clear 75 = .ok (.aload_n 0, 1) := by decide +kernel
theorem dX7_clear_76 : decode cX7_clear 76 = .ok (.getfield 13, 3) := by decide +kernel
theorem dX7_clear_79 : decode cX7_clear 79 = .ok (.aload_n 0, 1) := by decide +kernel
theorem dX7_clear_80 : decode cX7_clear 80 = .ok (.getfield 71, 3) := by decide +kernel
theorem dX7_clear_83 : decode cX7_clear 83 = .ok (.aaload, 1) := by decide +kernel
theorem dX7_clear_84 : decode cX7_clear 84 = .ok (.aastore, 1) := by decide +kernel
theorem dX7_clear_85 : decode cX7_clear 85 = .ok (.aload_n 0, 1) := by decide +kernel
theorem dX7_clear_86 : decode cX7_clear 86 = .ok (.getfield 13, 3) := by decide +kernel
theorem dX7_clear_89 : decode cX7_clear 89 = .ok (.aload_n 0, 1) := by decide +kernel
theorem dX7_clear_90 : decode cX7_clear 90 = .ok (.getfield 71, 3) := by decide +kernel
theorem dX7_clear_93 : decode cX7_clear 93 = .ok (.aload 4, 2) := by decide +kernel
theorem dX7_clear_95 : decode cX7_clear 95 = .ok (.aastore, 1) := by decide +kernel
theorem dX7_clear_96 : decode cX7_clear 96 = .ok (.iconst 0, 1) := by decide +kernel
theorem dX7_clear_97 : decode cX7_clear 97 = .ok (.istore 5, 2) := by decide +kernel
theorem dX7_clear_99 : decode cX7_clear 99 = .ok (.iload 5, 2) := by decide +kernel
theorem dX7_clear_101 : decode cX7_clear 101 = .ok (.aload_n 0, 1) := by decide +kernel
theorem dX7_clear_102 : decode cX7_clear 102 = .ok (.getfield 39, 3) := by decide +kernel
theorem dX7_clear_105 : decode cX7_clear 105 = .ok (.if_icmp .ge 25, 3) := by decide +kernel
theorem dX7_clear_108 : decode cX7_clear 108 = .ok (.iload 5, 2) := by decide +kernel
theorem dX7_clear_110 : decode cX7_clear 110 = .ok (.aload_n 0, 1) := by decide +kernel
theorem dX7_clear_111 : decode cX7_clear 111 = .ok (.getfield 71, 3) := by decide +kernel
theorem dX7_clear_114 : decode cX7_clear 114 = .ok (.if_icmp .eq 10, 3) := by decide +kernel
theorem dX7_clear_117 : decode cX7_clear 117 = .ok (.aload_n 0, 1) := by decide +kernel
theorem dX7_clear_118 : decode cX7_clear 118 = .ok (.iload 5, 2) := by decide +kernel
theorem dX7_clear_120 : decode cX7_clear 120 = .ok (.iload_n 2, 1) := by decide +kernel
theorem dX7_clear_121 : decode cX7_clear 121 = .ok (.invokevirtual 81, 3) := by decide +kernel
theorem dX7_clear_124 : decode cX7_clear 124 = .ok (.iinc 5 1, 3) := by decide +kernel
theorem dX7_clear_127 : decode cX7_clear 127 = .ok (.goto (-28), 3) := by decide +kernel
theorem dX7_clear_130 : decode cX7_clear 130 = .ok (.aload_n 0, 1) := by decide +kernel
theorem dX7_clear_131 : decode cX7_clear 131 = .ok (.getfield 28, 3) := by decide +kernel
theorem dX7_clear_134 : decode cX7_clear 134 = .ok (.aload_n 0, 1) := by decide +kernel
theorem dX7_clear_135 : decode cX7_clear 135 = .ok (.getfield 13, 3) := by decide +kernel
theorem dX7_clear_138 : decode cX7_clear 138 = .ok (.aload_n 0, 1) := by decide +kernel
theorem dX7_clear_139 : decode cX7_clear 139 = .ok (.getfield 71, 3) := by decide +kernel
theorem dX7_clear_142 : decode cX7_clear 142 = .ok (.aaload, 1) := by decide +kernel
theorem dX7_clear_143 : decode cX7_clear 143 = .ok (.iload_n 2, 1) := by decide +kernel
theorem dX7_clear_144 : decode cX7_clear 144 = .ok (.aaload, 1) := by decide +kernel
theorem dX7_clear_145 : decode cX7_clear 145 = .ok (.invokevirtual 85, 3) := by decide +kernel
theorem dX7_clear_148 : decode cX7_clear 148 = .ok (.aload_n 0, 1) := by decide +kernel
theorem dX7_clear_149 : decode cX7_clear 149 = .ok (.dup, 1) := by decide +kernel
theorem dX7_clear_150 : decode cX7_clear 150 = .ok (.getfield 71, 3) := by decide +kernel
theorem dX7_clear_153 : decode cX7_clear 153 = .ok (.iconst 1, 1) := by decide +kernel
theorem dX7_clear_154 : decode cX7_clear 154 = .ok (.iadd, 1) := by decide +kernel
theorem dX7_clear_155 : decode cX7_clear 155 = .ok (.putfield 71, 3) := by decide +kernel
theorem dX7_clear_158 : decode cX7_clear 158 = .ok (.iinc 2 1, 3) := by decide +kernel
theorem dX7_clear_161 : decode cX7_clear 161 = .ok (.goto (-142), 3) := by decide +kernel
theorem dX7_clear_164 : decode cX7_clear 164 = .ok (.iconst (-1), 1) := by decide +kernel
theorem dX7_clear_165 : decode cX7_clear 165 = .ok (.ireturn, 1) := by decide +kernel
abbrev W_X7_clear (g : GX) (d : Nat) (av : List Value) (Q : QT) (n : Nat) (pc : Nat) (ls : LV) (stk : List Value) (h : Hp) : Prop := RJ g m_X7_clear (d + 1) 0 0 av Q pc ls stk n h 0 0
theorem s_X7_clear_0 {g : GX} {d : Nat} {av : List Value} {Q : QT} {n : Nat} {h : Hp} {x1 : Int32} (hp : g.2.2.2.2 = true)  (H : CallV g m_X7_tidy d [.ref 113] n h (fun h1 => (∀ h2, h2 = wi h1 113 8 (0 : Int32) → (CallV g m_X3_set d [.ref 143, .int (1 : Int32)] n h2 (fun h3 => (W_X7_clear g d av Q n 19 [some (.ref 113), some (.int x1), some (.int (0 : Int32)), none, none, none] [] h3)))))) : W_X7_clear g d av Q n 0 [some (.ref 113), some (.int x1), none, none, none, none] [] h := by
  refine r_aload_n dX7_clear_0 rfl rfl ?_
  refine k_VV (As := []) (stk := []) hp cv_X7_68 dX7_clear_1 rfl (Nat.le_of_ble_eq_true rfl) ly_7 (H.mono (fun h1 H => ?_)) ⟨Nat.le_refl _, Nat.le_refl _⟩
  refine r_aload_n dX7_clear_4 rfl rfl ?_
  refine r_iconst (v := (0 : Int32)) dX7_clear_5 rfl ?_
  refine m_putI hp fw_X7_71 dX7_clear_6 rfl rfl ly_7 (fun h2 eh2 => ?_)
  replace H := H h2 eh2
  refine r_aload_n dX7_clear_9 rfl rfl ?_
  refine m_getF (x := 143) hp fw_X7_28 dX7_clear_10 rfl ly_7 (ff_7_4 ly_7) ?_
  refine r_iconst (v := (1 : Int32)) dX7_clear_13 rfl ?_
  refine k_VV (As := [.int (1 : Int32)]) (stk := []) hp cv_X7_74 dX7_clear_14 rfl (Nat.le_of_ble_eq_true rfl) (lf_7_4 ly_7) (H.mono (fun h3 H => ?_)) ⟨Nat.le_refl _, Nat.le_refl _⟩
  refine r_iconst (v := (0 : Int32)) dX7_clear_17 rfl ?_
  refine r_istore_n (ls2 := [some (.ref 113), some (.int x1), some (.int (0 : Int32)), none, none, none]) dX7_clear_18 rfl (by decide) rfl ?_
  exact H
theorem s_X7_clear_19 {g : GX} {d : Nat} {av : List Value} {Q : QT} {n : Nat} {h : Hp} {x1 : Int32} {x2 : Int32} (hp : g.2.2.2.2 = true)  (H : (((ri h 113 6) ≤ x2) → (Q (some (.int (-1 : Int32))) n h)) ∧ ((¬ (ri h 113 6) ≤ x2) → (CallI g m_X7_pivot d [.ref 113, .int x2] n h (fun v1 h1 => ((((0 : Int32) ≤ v1) → (W_X7_clear g d av Q n 50 [some (.ref 113), some (.int x1), some (.int x2), some (.int v1), none, none] [.int (ri h1 113 8), .int x2, .ref 145] h1)) ∧ ((¬ (0 : Int32) ≤ v1) → (W_X7_clear g d av Q n 50 [some (.ref 113), some (.int x1), some (.int x2), some (.int v1), none, none] [.int (-1 : Int32), .int x2, .ref 145] h1))))))) : W_X7_clear g d av Q n 19 [some (.ref 113), some (.int x1), some (.int x2), none, none, none] [] h := by
  refine r_iload_n dX7_clear_19 rfl rfl ?_
  refine r_aload_n dX7_clear_20 rfl rfl ?_
  refine m_getI hp fw_X7_43 dX7_clear_21 rfl ly_7 ?_
  refine r_icmp_ge (tgt := 164) dX7_clear_24 rfl (fun cH => ?_) (fun cH => ?_)
  · replace H := H.1 cH
    refine r_iconst (v := (-1 : Int32)) dX7_clear_164 rfl ?_
    exact r_zret dX7_clear_165 rfl rfl (Nat.le_refl _) (Nat.le_refl _) H
  · replace H := H.2 cH
    refine r_aload_n dX7_clear_27 rfl rfl ?_
    refine r_iload_n dX7_clear_28 rfl rfl ?_
    refine k_VI (As := [.int x2]) (stk := []) hp cv_X7_77 dX7_clear_29 rfl (Nat.le_of_ble_eq_true rfl) ly_7 (H.mono (fun v1 h1 H => ?_)) ⟨Nat.le_refl _, Nat.le_refl _⟩
    refine r_istore_n (ls2 := [some (.ref 113), some (.int x1), some (.int x2), some (.int v1), none, none]) dX7_clear_32 rfl (by decide) rfl ?_
    refine r_aload_n dX7_clear_33 rfl rfl ?_
    refine m_getF (x := 145) hp fw_X7_31 dX7_clear_34 rfl ly_7 (ff_7_7 ly_7) ?_
    refine r_iload_n dX7_clear_37 rfl rfl ?_
    refine r_iload_n dX7_clear_38 rfl rfl ?_
    refine r_if_ge (tgt := 46) dX7_clear_39 rfl (fun cH => ?_) (fun cH => ?_)
    · replace H := H.1 cH
      refine r_aload_n dX7_clear_46 rfl rfl ?_
      refine m_getI hp fw_X7_71 dX7_clear_47 rfl ly_7 ?_
      exact H
    · replace H := H.2 cH
      refine r_iconst (v := (-1 : Int32)) dX7_clear_42 rfl ?_
      refine r_goto (tgt := 50) dX7_clear_43 rfl ?_
      exact H
theorem s_X7_clear_50 {g : GX} {d : Nat} {av : List Value} {Q : QT} {n : Nat} {h : Hp} {x1 : Int32} {x2 : Int32} {x3 : Int32} {xs0 : Int32} {xs1 : Int32} {as2 : Nat} {Ls2 : Nat} (hp : g.2.2.2.2 = true) (ts2 : lay as2 = (1, Ls2, 0)) (H : vp_in xs1 Ls2 ∧ ∀ h1, h1 = wi h as2 (xs1).toNatClampNeg xs0 → ((((0 : Int32) ≤ x3) → (vp_in x3 24 ∧ ∃ r2 Lr2, rr h1 114 (x3).toNatClampNeg = some r2 ∧ (lay r2 = (2, Lr2, 3) ∧ r2 < N0) ∧ (vp_in (ri h1 113 8) 24 ∧ ∃ r3 Lr3, rr h1 114 ((ri h1 113 8)).toNatClampNeg = some r3 ∧ (lay r3 = (2, Lr3, 3) ∧ r3 < N0) ∧ (vp_in x3 24 ∧ fin 114 (x3).toNatClampNeg = none ∧ ∀ h4, h4 = wr h1 114 (x3).toNatClampNeg (some r3) → (vp_in (ri h4 113 8) 24 ∧ fin 114 ((ri h4 113 8)).toNatClampNeg = none ∧ ∀ h5, h5 = wr h4 114 ((ri h4 113 8)).toNatClampNeg (some r2) → (W_X7_clear g d av Q n 99 [some (.ref 113), some (.int x1), some (.int x2), none, none, some (.int (0 : Int32))] [] h5)))))) ∧ ((¬ (0 : Int32) ≤ x3) → (((x2 < x1) → (W_X7_clear g d av Q n 158 [some (.ref 113), some (.int x1), some (.int x2), none, none, none] [] h1)) ∧ ((¬ x2 < x1) → (Q (some (.int x2)) n h1)))))) : W_X7_clear g d av Q n 50 [some (.ref 113), some (.int x1), some (.int x2), some (.int x3), none, none] [.int xs0, .int xs1, .ref as2] h := by
  refine m_iast hp dX7_clear_50 ts2 H.1 (fun h1 eh1 => ?_)
  replace H := H.2 h1 eh1
  refine r_iload_n dX7_clear_51 rfl rfl ?_
  refine r_if_ge (tgt := 62) dX7_clear_52 rfl (fun cH => ?_) (fun cH => ?_)
  · replace H := H.1 cH
    refine r_aload_n dX7_clear_62 rfl rfl ?_
    refine m_getF (x := 114) hp fw_X7_13 dX7_clear_63 rfl ly_7 (ff_7_1 ly_7) ?_
    refine r_iload_n dX7_clear_66 rfl rfl ?_
    have hir2 := H.1
    obtain ⟨r2, Lr2, er2, tr2, H⟩ := H.2
    refine m_aalM (x := r2) hp dX7_clear_67 (lf_7_1 ly_7) rfl rfl (lu_7_1 ly_7) hir2 er2 ?_
    refine r_astore (ls2 := [some (.ref 113), some (.int x1), some (.int x2), some (.int x3), some (.ref r2), none]) dX7_clear_68 (by decide) rfl ?_
    refine r_aload_n dX7_clear_70 rfl rfl ?_
    refine m_getF (x := 114) hp fw_X7_13 dX7_clear_71 rfl ly_7 (ff_7_1 ly_7) ?_
    refine r_iload_n dX7_clear_74 rfl rfl ?_
    refine r_aload_n dX7_clear_75 rfl rfl ?_
    refine m_getF (x := 114) hp fw_X7_13 dX7_clear_76 rfl ly_7 (ff_7_1 ly_7) ?_
    refine r_aload_n dX7_clear_79 rfl rfl ?_
    refine m_getI hp fw_X7_71 dX7_clear_80 rfl ly_7 ?_
    have hir3 := H.1
    obtain ⟨r3, Lr3, er3, tr3, H⟩ := H.2
    refine m_aalM (x := r3) hp dX7_clear_83 (lf_7_1 ly_7) rfl rfl (lu_7_1 ly_7) hir3 er3 ?_
    refine m_aastR hp dX7_clear_84 (lf_7_1 ly_7) rfl rfl (Or.inr rfl) ao_poly tr3.1 (lu_7_1 ly_7) tr3.2 H.1 H.2.1 (fun h4 eh4 => ?_)
    replace H := H.2.2 h4 eh4
    refine r_aload_n dX7_clear_85 rfl rfl ?_
    refine m_getF (x := 114) hp fw_X7_13 dX7_clear_86 rfl ly_7 (ff_7_1 ly_7) ?_
    refine r_aload_n dX7_clear_89 rfl rfl ?_
    refine m_getI hp fw_X7_71 dX7_clear_90 rfl ly_7 ?_
    refine r_aload dX7_clear_93 rfl ?_
    refine m_aastR hp dX7_clear_95 (lf_7_1 ly_7) rfl rfl (Or.inr rfl) ao_poly tr2.1 (lu_7_1 ly_7) tr2.2 H.1 H.2.1 (fun h5 eh5 => ?_)
    replace H := H.2.2 h5 eh5
    refine r_iconst (v := (0 : Int32)) dX7_clear_96 rfl ?_
    refine r_istore (ls2 := [some (.ref 113), some (.int x1), some (.int x2), some (.int x3), some (.ref r2), some (.int (0 : Int32))]) dX7_clear_97 (by decide) rfl ?_
    refine r_prune [true, true, true, false, false, true] (ls2 := [some (.ref 113), some (.int x1), some (.int x2), none, none, some (.int (0 : Int32))]) rfl ?_
    exact H
  · replace H := H.2 cH
    refine r_iload_n dX7_clear_55 rfl rfl ?_
    refine r_iload_n dX7_clear_56 rfl rfl ?_
    refine r_icmp_lt (tgt := 158) dX7_clear_57 rfl (fun cH => ?_) (fun cH => ?_)
    · replace H := H.1 cH
      refine r_prune [true, true, true, false, false, false] (ls2 := [some (.ref 113), some (.int x1), some (.int x2), none, none, none]) rfl ?_
      exact H
    · replace H := H.2 cH
      refine r_iload_n dX7_clear_60 rfl rfl ?_
      exact r_zret dX7_clear_61 rfl rfl (Nat.le_refl _) (Nat.le_refl _) H
theorem s_X7_clear_99 {g : GX} {d : Nat} {av : List Value} {Q : QT} {n : Nat} {h : Hp} {x1 : Int32} {x2 : Int32} {x5 : Int32} (hp : g.2.2.2.2 = true)  (H : (((ri h 113 5) ≤ x5) → (vp_in (ri h 113 8) 24 ∧ ∃ r1 Lr1, rr h 114 ((ri h 113 8)).toNatClampNeg = some r1 ∧ (lay r1 = (2, Lr1, 3) ∧ r1 < N0) ∧ (vp_in x2 Lr1 ∧ ∃ r2, rr h r1 (x2).toNatClampNeg = some r2 ∧ lay r2 = (0, 3, 2) ∧ (CallV g m_X3_copy d [.ref 143, .ref r2] n h (fun h3 => (∀ h4, h4 = wi h3 113 8 ((ri h3 113 8) + (1 : Int32)) → (W_X7_clear g d av Q n 158 [some (.ref 113), some (.int x1), some (.int x2), none, none, none] [] h4))))))) ∧ ((¬ (ri h 113 5) ≤ x5) → (((x5 = (ri h 113 8)) → (W_X7_clear g d av Q n 124 [some (.ref 113), some (.int x1), some (.int x2), none, none, some (.int x5)] [] h)) ∧ ((¬ x5 = (ri h 113 8)) → (CallV g m_X7_takeAway d [.ref 113, .int x5, .int x2] n h (fun h5 => (W_X7_clear g d av Q n 124 [some (.ref 113), some (.int x1), some (.int x2), none, none, some (.int x5)] [] h5))))))) : W_X7_clear g d av Q n 99 [some (.ref 113), some (.int x1), some (.int x2), none, none, some (.int x5)] [] h := by
  refine r_iload dX7_clear_99 rfl ?_
  refine r_aload_n dX7_clear_101 rfl rfl ?_
  refine m_getI hp fw_X7_39 dX7_clear_102 rfl ly_7 ?_
  refine r_icmp_ge (tgt := 130) dX7_clear_105 rfl (fun cH => ?_) (fun cH => ?_)
  · replace H := H.1 cH
    refine r_aload_n dX7_clear_130 rfl rfl ?_
    refine m_getF (x := 143) hp fw_X7_28 dX7_clear_131 rfl ly_7 (ff_7_4 ly_7) ?_
    refine r_aload_n dX7_clear_134 rfl rfl ?_
    refine m_getF (x := 114) hp fw_X7_13 dX7_clear_135 rfl ly_7 (ff_7_1 ly_7) ?_
    refine r_aload_n dX7_clear_138 rfl rfl ?_
    refine m_getI hp fw_X7_71 dX7_clear_139 rfl ly_7 ?_
    have hir1 := H.1
    obtain ⟨r1, Lr1, er1, tr1, H⟩ := H.2
    refine m_aalM (x := r1) hp dX7_clear_142 (lf_7_1 ly_7) rfl rfl (lu_7_1 ly_7) hir1 er1 ?_
    refine r_iload_n dX7_clear_143 rfl rfl ?_
    have hir2 := H.1
    obtain ⟨r2, er2, tr2, H⟩ := H.2
    refine m_aalM (x := r2) hp dX7_clear_144 tr1.1 rfl rfl tr1.2 hir2 er2 ?_
    refine k_VV (As := [.ref r2]) (stk := []) hp cv_X7_85 dX7_clear_145 rfl (Nat.le_of_ble_eq_true rfl) (lf_7_4 ly_7) (H.mono (fun h3 H => ?_)) ⟨Nat.le_refl _, Nat.le_refl _⟩
    refine r_aload_n dX7_clear_148 rfl rfl ?_
    refine r_dup dX7_clear_149 rfl ?_
    refine m_getI hp fw_X7_71 dX7_clear_150 rfl ly_7 ?_
    refine r_iconst (v := (1 : Int32)) dX7_clear_153 rfl ?_
    refine r_iadd dX7_clear_154 ?_
    refine m_putI hp fw_X7_71 dX7_clear_155 rfl rfl ly_7 (fun h4 eh4 => ?_)
    replace H := H h4 eh4
    refine r_prune [true, true, true, false, false, false] (ls2 := [some (.ref 113), some (.int x1), some (.int x2), none, none, none]) rfl ?_
    exact H
  · replace H := H.2 cH
    refine r_iload dX7_clear_108 rfl ?_
    refine r_aload_n dX7_clear_110 rfl rfl ?_
    refine m_getI hp fw_X7_71 dX7_clear_111 rfl ly_7 ?_
    refine r_icmp_eq (tgt := 124) dX7_clear_114 rfl (fun cH => ?_) (fun cH => ?_)
    · replace H := H.1 cH
      exact H
    · replace H := H.2 cH
      refine r_aload_n dX7_clear_117 rfl rfl ?_
      refine r_iload dX7_clear_118 rfl ?_
      refine r_iload_n dX7_clear_120 rfl rfl ?_
      refine k_VV (As := [.int x5, .int x2]) (stk := []) hp cv_X7_81 dX7_clear_121 rfl (Nat.le_of_ble_eq_true rfl) ly_7 (H.mono (fun h5 H => ?_)) ⟨Nat.le_refl _, Nat.le_refl _⟩
      exact H
theorem s_X7_clear_124 {g : GX} {d : Nat} {av : List Value} {Q : QT} {n : Nat} {h : Hp} {x1 : Int32} {x2 : Int32} {x5 : Int32} (hp : g.2.2.2.2 = true)  (H : W_X7_clear g d av Q n 99 [some (.ref 113), some (.int x1), some (.int x2), none, none, some (.int (x5 + (1 : Int32)))] [] h) : W_X7_clear g d av Q n 124 [some (.ref 113), some (.int x1), some (.int x2), none, none, some (.int x5)] [] h := by
  refine r_iinc (v := (x5 + (1 : Int32))) (ls2 := [some (.ref 113), some (.int x1), some (.int x2), none, none, some (.int (x5 + (1 : Int32)))]) dX7_clear_124 rfl rfl (by decide) rfl ?_
  refine r_goto (tgt := 99) dX7_clear_127 rfl ?_
  exact H
theorem s_X7_clear_158 {g : GX} {d : Nat} {av : List Value} {Q : QT} {n : Nat} {h : Hp} {x1 : Int32} {x2 : Int32} (hp : g.2.2.2.2 = true)  (H : W_X7_clear g d av Q n 19 [some (.ref 113), some (.int x1), some (.int (x2 + (1 : Int32))), none, none, none] [] h) : W_X7_clear g d av Q n 158 [some (.ref 113), some (.int x1), some (.int x2), none, none, none] [] h := by
  refine r_iinc (v := (x2 + (1 : Int32))) (ls2 := [some (.ref 113), some (.int x1), some (.int (x2 + (1 : Int32))), none, none, none]) dX7_clear_158 rfl rfl (by decide) rfl ?_
  refine r_goto (tgt := 19) dX7_clear_161 rfl ?_
  exact H
theorem dX10_sylvester_0 : decode cX10_sylvester 0 = .ok (.iload_n 3, 1) := by decide +kernel
theorem dX10_sylvester_1 : decode cX10_sylvester 1 = .ok (.iload 4, 2) := by decide +kernel
theorem dX10_sylvester_3 : decode cX10_sylvester 3 = .ok (.iadd, 1) := by decide +kernel
theorem dX10_sylvester_4 : decode cX10_sylvester 4 = .ok (.istore 6, 2) := by decide +kernel
theorem dX10_sylvester_6 : decode cX10_sylvester 6 = .ok (.iconst 0, 1) := by decide +kernel
theorem dX10_sylvester_7 : decode cX10_sylvester 7 = .ok (.istore 7, 2) := by decide +kernel
theorem dX10_sylvester_9 : decode cX10_sylvester 9 = .ok (.iload 7, 2) := by decide +kernel
theorem dX10_sylvester_11 : decode cX10_sylvester 11 = .ok (.iload 6, 2) := by decide +kernel
theorem dX10_sylvester_13 : decode cX10_sylvester 13 = .ok (.if_icmp .ge 36, 3) := by decide +kernel
theorem dX10_sylvester_16 : decode cX10_sylvester 16 = .ok (.iconst 0, 1) := by decide +kernel
theorem dX10_sylvester_17 : decode cX10_sylvester 17 = .ok (.istore 8, 2) := by decide +kernel
theorem dX10_sylvester_19 : decode cX10_sylvester 19 = .ok (.iload 8, 2) := by decide +kernel
theorem dX10_sylvester_21 : decode cX10_sylvester 21 = .ok (.iload 6, 2) := by decide +kernel
theorem dX10_sylvester_23 : decode cX10_sylvester 23 = .ok (.if_icmp .ge 20, 3) := by decide +kernel
theorem dX10_sylvester_26 : decode cX10_sylvester 26 = .ok (.aload_n 0, 1) := by decide +kernel
theorem dX10_sylvester_27 : decode cX10_sylvester 27 = .ok (.getfield 483, 3) := by decide +kernel
theorem dX10_sylvester_30 : decode cX10_sylvester 30 = .ok (.iload 7, 2) := by decide +kernel
theorem dX10_sylvester_32 : decode cX10_sylvester 32 = .ok (.aaload, 1) := by decide +kernel
theorem dX10_sylvester_33 : decode cX10_sylvester 33 = .ok (.iload 8, 2) := by decide +kernel
theorem dX10_sylvester_35 : decode cX10_sylvester 35 = .ok (.iconst 0, 1) := by decide +kernel
theorem dX10_sylvester_36 : decode cX10_sylvester 36 = .ok (.iastore, 1) := by decide +kernel
theorem dX10_sylvester_37 : decode cX10_sylvester 37 = .ok (.iinc 8 1, 3) := by decide +kernel
theorem dX10_sylvester_40 : decode cX10_sylvester 40 = .ok (.goto (-21), 3) := by decide +kernel
theorem dX10_sylvester_43 : decode cX10_sylvester 43 = .ok (.iinc 7 1, 3) := by decide +kernel
theorem dX10_sylvester_46 : decode cX10_sylvester 46 = .ok (.goto (-37), 3) := by decide +kernel
theorem dX10_sylvester_49 : decode cX10_sylvester 49 = .ok (.iconst 0, 1) := by decide +kernel
theorem dX10_sylvester_50 : decode cX10_sylvester 50 = .ok (.istore 7, 2) := by decide +kernel
theorem dX10_sylvester_52 : decode cX10_sylvester 52 = .ok (.iload 7, 2) := by decide +kernel
theorem dX10_sylvester_54 : decode cX10_sylvester 54 = .ok (.iload_n 3, 1) := by decide +kernel
theorem dX10_sylvester_55 : decode cX10_sylvester 55 = .ok (.if_icmp .gt 56, 3) := by decide +kernel
theorem dX10_sylvester_58 : decode cX10_sylvester 58 = .ok (.aload_n 1, 1) := by decide +kernel
theorem dX10_sylvester_59 : decode cX10_sylvester 59 = .ok (.getfield 98, 3) := by decide +kernel
theorem dX10_sylvester_62 : decode cX10_sylvester 62 = .ok (.iload_n 3, 1) := by decide +kernel
theorem dX10_sylvester_63 : decode cX10_sylvester 63 = .ok (.iload 7, 2) := by decide +kernel
theorem dX10_sylvester_65 : decode cX10_sylvester 65 = .ok (.isub, 1) := by decide +kernel
theorem dX10_sylvester_66 : decode cX10_sylvester 66 = .ok (.aaload, 1) := by decide +kernel
theorem dX10_sylvester_67 : decode cX10_sylvester 67 = .ok (.iload 5, 2) := by decide +kernel
theorem dX10_sylvester_69 : decode cX10_sylvester 69 = .ok (.invokestatic 136, 3) := by decide +kernel
theorem dX10_sylvester_72 : decode cX10_sylvester 72 = .ok (.istore 8, 2) := by decide +kernel
theorem dX10_sylvester_74 : decode cX10_sylvester 74 = .ok (.iconst 0, 1) := by decide +kernel
theorem dX10_sylvester_75 : decode cX10_sylvester 75 = .ok (.istore 9, 2) := by decide +kernel
theorem dX10_sylvester_77 : decode cX10_sylvester 77 = .ok (.iload 9, 2) := by decide +kernel
theorem dX10_sylvester_79 : decode cX10_sylvester 79 = .ok (.iload 4, 2) := by decide +kernel
theorem dX10_sylvester_81 : decode cX10_sylvester 81 = .ok (.if_icmp .ge 24, 3) := by decide +kernel
theorem dX10_sylvester_84 : decode cX10_sylvester 84 = .ok (.aload_n 0, 1) := by decide +kernel
theorem dX10_sylvester_85 : decode cX10_sylvester 85 = .ok (.getfield 483, 3) := by decide +kernel
theorem dX10_sylvester_88 : decode cX10_sylvester 88 = .ok (.iload 9, 2) := by decide +kernel
theorem dX10_sylvester_90 : decode cX10_sylvester 90 = .ok (.aaload, 1) := by decide +kernel
theorem dX10_sylvester_91 : decode cX10_sylvester 91 = .ok (.iload 9, 2) := by decide +kernel
theorem dX10_sylvester_93 : decode cX10_sylvester 93 = .ok (.iload 7, 2) := by decide +kernel
theorem dX10_sylvester_95 : decode cX10_sylvester 95 = .ok (.iadd, 1) := by decide +kernel
theorem dX10_sylvester_96 : decode cX10_sylvester 96 = .ok (.iload 8, 2) := by decide +kernel
theorem dX10_sylvester_98 : decode cX10_sylvester 98 = .ok (.iastore, 1) := by decide +kernel
theorem dX10_sylvester_99 : decode cX10_sylvester 99 = .ok (.iinc 9 1, 3) := by decide +kernel
theorem dX10_sylvester_102 : decode cX10_sylvester 102 = .ok (.goto (-25), 3) := by decide +kernel
theorem dX10_sylvester_105 : decode cX10_sylvester 105 = .ok (.iinc 7 1, 3) := by decide +kernel
theorem dX10_sylvester_108 : decode cX10_sylvester 108 = .ok (.goto (-56), 3) := by decide +kernel
theorem dX10_sylvester_111 : decode cX10_sylvester 111 = .ok (.iconst 0, 1) := by decide +kernel
theorem dX10_sylvester_112 : decode cX10_sylvester 112 = .ok (.istore 7, 2) := by decide +kernel
theorem dX10_sylvester_114 : decode cX10_sylvester 114 = .ok (.iload 7, 2) := by decide +kernel
theorem dX10_sylvester_116 : decode cX10_sylvester 116 = .ok (.iload 4, 2) := by decide +kernel
theorem dX10_sylvester_118 : decode cX10_sylvester 118 = .ok (.if_icmp .gt 59, 3) := by decide +kernel
theorem dX10_sylvester_121 : decode cX10_sylvester 121 = .ok (.aload_n 2, 1) := by decide +kernel
theorem dX10_sylvester_122 : decode cX10_sylvester 122 = .ok (.getfield 98, 3) := by decide +kernel
theorem dX10_sylvester_125 : decode cX10_sylvester 125 = .ok (.iload 4, 2) := by decide +kernel
theorem dX10_sylvester_127 : decode cX10_sylvester 127 = .ok (.iload 7, 2) := by decide +kernel
theorem dX10_sylvester_129 : decode cX10_sylvester 129 = .ok (.isub, 1) := by decide +kernel
theorem dX10_sylvester_130 : decode cX10_sylvester 130 = .ok (.aaload, 1) := by decide +kernel
theorem dX10_sylvester_131 : decode cX10_sylvester 131 = .ok (.iload 5, 2) := by decide +kernel
theorem dX10_sylvester_133 : decode cX10_sylvester 133 = .ok (.invokestatic 136, 3) := by decide +kernel
theorem dX10_sylvester_136 : decode cX10_sylvester 136 = .ok (.istore 8, 2) := by decide +kernel
theorem dX10_sylvester_138 : decode cX10_sylvester 138 = .ok (.iconst 0, 1) := by decide +kernel
theorem dX10_sylvester_139 : decode cX10_sylvester 139 = .ok (.istore 9, 2) := by decide +kernel
theorem dX10_sylvester_141 : decode cX10_sylvester 141 = .ok (.iload 9, 2) := by decide +kernel
theorem dX10_sylvester_143 : decode cX10_sylvester 143 = .ok (.iload_n 3, 1) := by decide +kernel
theorem dX10_sylvester_144 : decode cX10_sylvester 144 = .ok (.if_icmp .ge 27, 3) := by decide +kernel
theorem dX10_sylvester_147 : decode cX10_sylvester 147 = .ok (.aload_n 0, 1) := by decide +kernel
theorem dX10_sylvester_148 : decode cX10_sylvester 148 = .ok (.getfield 483, 3) := by decide +kernel
theorem dX10_sylvester_151 : decode cX10_sylvester 151 = .ok (.iload 4, 2) := by decide +kernel
theorem dX10_sylvester_153 : decode cX10_sylvester 153 = .ok (.iload 9, 2) := by decide +kernel
theorem dX10_sylvester_155 : decode cX10_sylvester 155 = .ok (.iadd, 1) := by decide +kernel
theorem dX10_sylvester_156 : decode cX10_sylvester 156 = .ok (.aaload, 1) := by decide +kernel
theorem dX10_sylvester_157 : decode cX10_sylvester 157 = .ok (.iload 9, 2) := by decide +kernel
theorem dX10_sylvester_159 : decode cX10_sylvester 159 = .ok (.iload 7, 2) := by decide +kernel
theorem dX10_sylvester_161 : decode cX10_sylvester 161 = .ok (.iadd, 1) := by decide +kernel
theorem dX10_sylvester_162 : decode cX10_sylvester 162 = .ok (.iload 8, 2) := by decide +kernel
theorem dX10_sylvester_164 : decode cX10_sylvester 164 = .ok (.iastore, 1) := by decide +kernel
theorem dX10_sylvester_165 : decode cX10_sylvester 165 = .ok (.iinc 9 1, 3) := by decide +kernel
theorem dX10_sylvester_168 : decode cX10_sylvester 168 = .ok (.goto (-27), 3) := by decide +kernel
theorem dX10_sylvester_171 : decode cX10_sylvester 171 = .ok (.iinc 7 1, 3) := by decide +kernel
theorem dX10_sylvester_174 : decode cX10_sylvester 174 = .ok (.goto (-60), 3) := by decide +kernel
theorem dX10_sylvester_177 : decode cX10_sylvester 177 = .ok (.iconst 1, 1) := by decide +kernel
theorem dX10_sylvester_178 : decode cX10_sylvester 178 = .ok (.istore 7, 2) := by decide +kernel
theorem dX10_sylvester_180 : decode cX10_sylvester 180 = .ok (.iconst 0, 1) := by decide +kernel
theorem dX10_sylvester_181 : decode cX10_sylvester 181 = .ok (.istore 8, 2) := by decide +kernel
theorem dX10_sylvester_183 : decode cX10_sylvester 183 = .ok (.iload 8, 2) := by decide +kernel
theorem dX10_sylvester_185 : decode cX10_sylvester 185 = .ok (.iload 6, 2) := by decide +kernel
theorem dX10_sylvester_187 : decode cX10_sylvester 187 = .ok (.if_icmp .ge 223, 3) := by decide +kernel
theorem dX10_sylvester_190 : decode cX10_sylvester 190 = .ok (.iload 8, 2) := by decide +kernel
theorem dX10_sylvester_192 : decode cX10_sylvester 192 = .ok (.istore 9, 2) := by decide +kernel
theorem dX10_sylvester_194 : decode cX10_sylvester 194 = .ok (.iload 9, 2) := by decide +kernel
theorem dX10_sylvester_196 : decode cX10_sylvester 196 = .ok (.iload 6, 2) := by decide +kernel
theorem dX10_sylvester_198 : decode cX10_sylvester 198 = .ok (.if_icmp .ge 22, 3) := by decide +kernel
theorem dX10_sylvester_201 : decode cX10_sylvester 201 = .ok (.aload_n 0, 1) := by decide +kernel
theorem dX10_sylvester_202 : decode cX10_sylvester 202 = .ok (.getfield 483, 3) := by decide +kernel
theorem dX10_sylvester_205 : decode cX10_sylvester 205 = .ok (.iload 9, 2) := by decide +kernel
theorem dX10_sylvester_207 : decode cX10_sylvester 207 = .ok (.aaload, 1) := by decide +kernel
theorem dX10_sylvester_208 : decode cX10_sylvester 208 = .ok (.iload 8, 2) := by decide +kernel
theorem dX10_sylvester_210 : decode cX10_sylvester 210 = .ok (.iaload, 1) := by decide +kernel
theorem dX10_sylvester_211 : decode cX10_sylvester 211 = .ok (.ifCond .ne 9, 3) := by decide +kernel
theorem dX10_sylvester_214 : decode cX10_sylvester 214 = .ok (.iinc 9 1, 3) := by decide +kernel
theorem dX10_sylvester_217 : decode cX10_sylvester 217 = .ok (.goto (-23), 3) := by decide +kernel
theorem dX10_sylvester_220 : decode cX10_sylvester 220 = .ok (.iload 9, 2) := by decide +kernel
theorem dX10_sylvester_222 : decode cX10_sylvester 222 = .ok (.iload 6, 2) := by decide +kernel
theorem dX10_sylvester_224 : decode cX10_sylvester 224 = .ok (.if_icmp .ne 5, 3) := by decide +kernel
theorem dX10_sylvester_227 : decode cX10_sylvester 227 = .ok (.iconst 0, 1) := by decide +kernel
theorem dX10_sylvester_228 : decode cX10_sylvester 228 = .ok (.ireturn, 1) := by decide +kernel
theorem dX10_sylvester_229 : decode cX10_sylvester 229 = .ok (.iload 9, 2) := by decide +kernel
theorem dX10_sylvester_231 : decode cX10_sylvester 231 = .ok (.iload 8, 2) := by decide +kernel
theorem dX10_sylvester_233 : decode cX10_sylvester 233 = .ok (.if_icmp .eq 43, 3) := by decide +kernel
theorem dX10_sylvester_236 : decode cX10_sylvester 236 = .ok (.aload_n 0, 1) := by decide +kernel
theorem dX10_sylvester_237 : decode cX10_sylvester 237 = .ok (.getfield 483, 3) := by decide +kernel
theorem dX10_sylvester_240 : decode cX10_sylvester 240 = .ok (.iload 9, 2) := by decide +kernel
theorem dX10_sylvester_242 : decode cX10_sylvester 242 = .ok (.aaload, 1) := by decide +kernel
theorem dX10_sylvester_243 : decode cX10_sylvester 243 = .ok (.astore 10, 2) := by decide +kernel
theorem dX10_sylvester_245 : decode cX10_sylvester 245 = .ok (.aload_n 0, 1) := by decide +kernel
theorem dX10_sylvester_246 : decode cX10_sylvester 246 = .ok (.getfield 483, 3) := by decide +kernel
theorem dX10_sylvester_249 : decode cX10_sylvester 249 = .ok (.iload 9, 2) := by decide +kernel
theorem dX10_sylvester_251 : decode cX10_sylvester 251 = .ok (.aload_n 0, 1) := by decide +kernel
theorem dX10_sylvester_252 : decode cX10_sylvester 252 = .ok (.getfield 483, 3) := by decide +kernel
theorem dX10_sylvester_255 : decode cX10_sylvester 255 = .ok (.iload 8, 2) := by decide +kernel
theorem dX10_sylvester_257 : decode cX10_sylvester 257 = .ok (.aaload, 1) := by decide +kernel
theorem dX10_sylvester_258 : decode cX10_sylvester 258 = .ok (.aastore, 1) := by decide +kernel
theorem dX10_sylvester_259 : decode cX10_sylvester 259 = .ok (.aload_n 0, 1) := by decide +kernel
theorem dX10_sylvester_260 : decode cX10_sylvester 260 = .ok (.getfield 483, 3) := by decide +kernel
theorem dX10_sylvester_263 : decode cX10_sylvester 263 = .ok (.iload 8, 2) := by decide +kernel
theorem dX10_sylvester_265 : decode cX10_sylvester 265 = .ok (.aload 10, 2) := by decide +kernel
theorem dX10_sylvester_267 : decode cX10_sylvester 267 = .ok (.aastore, 1) := by decide +kernel
theorem dX10_sylvester_268 : decode cX10_sylvester 268 = .ok (.iconst 0, 1) := by decide +kernel
theorem dX10_sylvester_269 : decode cX10_sylvester 269 = .ok (.iload 7, 2) := by decide +kernel
theorem dX10_sylvester_271 : decode cX10_sylvester 271 = .ok (.invokestatic 46, 3) := by decide +kernel
theorem dX10_sylvester_274 : decode cX10_sylvester 274 = .ok (.istore 7, 2) := by decide +kernel
theorem dX10_sylvester_276 : decode cX10_sylvester 276 = .ok (.iload 7, 2) := by decide +kernel
theorem dX10_sylvester_278 : decode cX10_sylvester 278 = .ok (.aload_n 0, 1) := by decide +kernel
theorem dX10_sylvester_279 : decode cX10_sylvester 279 = .ok (.getfield 483, 3) := by decide +kernel
theorem dX10_sylvester_282 : decode cX10_sylvester 282 = .ok (.iload 8, 2) := by decide +kernel
theorem dX10_sylvester_284 : decode cX10_sylvester 284 = .ok (.aaload, 1) := by decide +kernel
theorem dX10_sylvester_285 : decode cX10_sylvester 285 = .ok (.iload 8, 2) := by decide +kernel
theorem dX10_sylvester_287 : decode cX10_sylvester 287 = .ok (.iaload, 1) := by decide +kernel
theorem dX10_sylvester_288 : decode cX10_sylvester 288 = .ok (.invokestatic 56, 3) := by decide +kernel
theorem dX10_sylvester_291 : decode cX10_sylvester 291 = .ok (.istore 7, 2) := by decide +kernel
theorem dX10_sylvester_293 : decode cX10_sylvester 293 = .ok (.aload_n 0, 1) := by decide +kernel
theorem dX10_sylvester_294 : decode cX10_sylvester 294 = .ok (.getfield 483, 3) := by decide +kernel
theorem dX10_sylvester_297 : decode cX10_sylvester 297 = .ok (.iload 8, 2) := by decide +kernel
theorem dX10_sylvester_299 : decode cX10_sylvester 299 = .ok (.aaload, 1) := by decide +kernel
theorem dX10_sylvester_300 : decode cX10_sylvester 300 = .ok (.iload 8, 2) := by decide +kernel
theorem dX10_sylvester_302 : decode cX10_sylvester 302 = .ok (.iaload, 1) := by decide +kernel
theorem dX10_sylvester_303 : decode cX10_sylvester 303 = .ok (.invokestatic 13, 3) := by decide +kernel
theorem dX10_sylvester_306 : decode cX10_sylvester 306 = .ok (.istore 10, 2) := by decide +kernel
theorem dX10_sylvester_308 : decode cX10_sylvester 308 = .ok (.iload 8, 2) := by decide +kernel
theorem dX10_sylvester_310 : decode cX10_sylvester 310 = .ok (.iconst 1, 1) := by decide +kernel
theorem dX10_sylvester_311 : decode cX10_sylvester 311 = .ok (.iadd, 1) := by decide +kernel
theorem dX10_sylvester_312 : decode cX10_sylvester 312 = .ok (.istore 11, 2) := by decide +kernel
theorem dX10_sylvester_314 : decode cX10_sylvester 314 = .ok (.iload 11, 2) := by decide +kernel
theorem dX10_sylvester_316 : decode cX10_sylvester 316 = .ok (.iload 6, 2) := by decide +kernel
theorem dX10_sylvester_318 : decode cX10_sylvester 318 = .ok (.if_icmp .ge 86, 3) := by decide +kernel
theorem dX10_sylvester_321 : decode cX10_sylvester 321 = .ok (.aload_n 0, 1) := by decide +kernel
theorem dX10_sylvester_322 : decode cX10_sylvester 322 = .ok (.getfield 483, 3) := by decide +kernel
theorem dX10_sylvester_325 : decode cX10_sylvester 325 = .ok (.iload 11, 2) := by decide +kernel
theorem dX10_sylvester_327 : decode cX10_sylvester 327 = .ok (.aaload, 1) := by decide +kernel
theorem dX10_sylvester_328 : decode cX10_sylvester 328 = .ok (.iload 8, 2) := by decide +kernel
theorem dX10_sylvester_330 : decode cX10_sylvester 330 = .ok (.iaload, 1) := by decide +kernel
theorem dX10_sylvester_331 : decode cX10_sylvester 331 = .ok (.iload 10, 2) := by decide +kernel
theorem dX10_sylvester_333 : decode cX10_sylvester 333 = .ok (.invokestatic 56, 3) := by decide +kernel
theorem dX10_sylvester_336 : decode cX10_sylvester 336 = .ok (.istore 12, 2) := by decide +kernel
theorem dX10_sylvester_338 : decode cX10_sylvester 338 = .ok (.iload 8, 2) := by decide +kernel
theorem dX10_sylvester_340 : decode cX10_sylvester 340 = .ok (.istore 13, 2) := by decide +kernel
theorem dX10_sylvester_342 : decode cX10_sylvester 342 = .ok (.iload 13, 2) := by decide +kernel
theorem dX10_sylvester_344 : decode cX10_sylvester 344 = .ok (.iload 6, 2) := by decide +kernel
theorem dX10_sylvester_346 : decode cX10_sylvester 346 = .ok (.if_icmp .ge 52, 3) := by decide +kernel
theorem dX10_sylvester_349 : decode cX10_sylvester 349 = .ok (.iload 12, 2) := by decide +kernel
theorem dX10_sylvester_351 : decode cX10_sylvester 351 = .ok (.ifCond .eq 47, 3) := by decide +kernel
theorem dX10_sylvester_354 : decode cX10_sylvester 354 = .ok (.aload_n 0, 1) := by decide +kernel
theorem dX10_sylvester_355 : decode cX10_sylvester 355 = .ok (.getfield 483, 3) := by decide +kernel
theorem dX10_sylvester_358 : decode cX10_sylvester 358 = .ok (.iload 11, 2) := by decide +kernel
theorem dX10_sylvester_360 : decode cX10_sylvester 360 = .ok (.aaload, 1) := by decide +kernel
theorem dX10_sylvester_361 : decode cX10_sylvester 361 = .ok (.iload 13, 2) := by decide +kernel
theorem dX10_sylvester_363 : decode cX10_sylvester 363 = .ok (.aload_n 0, 1) := by decide +kernel
theorem dX10_sylvester_364 : decode cX10_sylvester 364 = .ok (.getfield 483, 3) := by decide +kernel
theorem dX10_sylvester_367 : decode cX10_sylvester 367 = .ok (.iload 11, 2) := by decide +kernel
theorem dX10_sylvester_369 : decode cX10_sylvester 369 = .ok (.aaload, 1) := by decide +kernel
theorem dX10_sylvester_370 : decode cX10_sylvester 370 = .ok (.iload 13, 2) := by decide +kernel
theorem dX10_sylvester_372 : decode cX10_sylvester 372 = .ok (.iaload, 1) := by decide +kernel
theorem dX10_sylvester_373 : decode cX10_sylvester 373 = .ok (.iload 12, 2) := by decide +kernel
theorem dX10_sylvester_375 : decode cX10_sylvester 375 = .ok (.aload_n 0, 1) := by decide +kernel
theorem dX10_sylvester_376 : decode cX10_sylvester 376 = .ok (.getfield 483, 3) := by decide +kernel
theorem dX10_sylvester_379 : decode cX10_sylvester 379 = .ok (.iload 8, 2) := by decide +kernel
theorem dX10_sylvester_381 : decode cX10_sylvester 381 = .ok (.aaload, 1) := by decide +kernel
theorem dX10_sylvester_382 : decode cX10_sylvester 382 = .ok (.iload 13, 2) := by decide +kernel
theorem dX10_sylvester_384 : decode cX10_sylvester 384 = .ok (.iaload, 1) := by decide +kernel
theorem dX10_sylvester_385 : decode cX10_sylvester 385 = .ok (.invokestatic 56, 3) := by decide +kernel
theorem dX10_sylvester_388 : decode cX10_sylvester 388 = .ok (.invokestatic 46, 3) := by decide +kernel
theorem dX10_sylvester_391 : decode cX10_sylvester 391 = .ok (.iastore, 1) := by decide +kernel
theorem dX10_sylvester_392 : decode cX10_sylvester 392 = .ok (.iinc 13 1, 3) := by decide +kernel
theorem dX10_sylvester_395 : decode cX10_sylvester 395 = .ok (.goto (-53), 3) := by decide +kernel
theorem dX10_sylvester_398 : decode cX10_sylvester 398 = .ok (.iinc 11 1, 3) := by decide +kernel
theorem dX10_sylvester_401 : decode cX10_sylvester 401 = .ok (.goto (-87), 3) := by decide +kernel
theorem dX10_sylvester_404 : decode cX10_sylvester 404 = .ok (.iinc 8 1, 3) := by decide +kernel
theorem dX10_sylvester_407 : decode cX10_sylvester 407 = .ok (.goto (-224), 3) := by decide +kernel
theorem dX10_sylvester_410 : decode cX10_sylvester 410 = .ok (.iload 7, 2) := by decide +kernel
theorem dX10_sylvester_412 : decode cX10_sylvester 412 = .ok (.ireturn, 1) := by decide +kernel
theorem dX10_clear_0 : decode cX10_clear 0 = .ok (.aload_n 0, 1) := by decide +kernel
theorem dX10_clear_1 : decode cX10_clear 1 = .ok (.getfield 21, 3) := by decide +kernel
theorem dX10_clear_4 : decode cX10_clear 4 = .ok (.istore_n 2, 1) := by decide +kernel
theorem dX10_clear_5 : decode cX10_clear 5 = .ok (.aload_n 0, 1) := by decide +kernel
theorem dX10_clear_6 : decode cX10_clear 6 = .ok (.invokevirtual 74, 3) := by decide +kernel
theorem dX10_clear_9 : decode cX10_clear 9 = .ok (.astore_n 3, 1) := by decide +kernel
theorem dX10_clear_10 : decode cX10_clear 10 = .ok (.aload_n 0, 1) := by decide +kernel
theorem dX10_clear_11 : decode cX10_clear 11 = .ok (.invokevirtual 74, 3) := by decide +kernel
theorem dX10_clear_14 : decode cX10_clear 14 = .ok (.astore 4, 2) := by decide +kernel
theorem dX10_clear_16 : decode cX10_clear 16 = .ok (.aload_n 0, 1) := by decide +kernel
theorem dX10_clear_17 : decode cX10_clear 17 = .ok (.invokevirtual 74, 3) := by decide +kernel
theorem dX10_clear_20 : decode cX10_clear 20 = .ok (.astore 5, 2) := by decide +kernel
theorem dX10_clear_22 : decode cX10_clear 22 = .ok (.aload_n 0, 1) := by decide +kernel
theorem dX10_clear_23 : decode cX10_clear 23 = .ok (.invokevirtual 74, 3) := by decide +kernel
theorem dX10_clear_26 : decode cX10_clear 26 = .ok (.astore 6, 2) := by decide +kernel
theorem dX10_clear_28 : decode cX10_clear 28 = .ok (.aload_n 0, 1) := by decide +kernel
theorem dX10_clear_29 : decode cX10_clear 29 = .ok (.invokevirtual 74, 3) := by decide +kernel
theorem dX10_clear_32 : decode cX10_clear 32 = .ok (.astore 7, 2) := by decide +kernel
theorem dX10_clear_34 : decode cX10_clear 34 = .ok (.aload_n 3, 1) := by decide +kernel
theorem dX10_clear_35 : decode cX10_clear 35 = .ok (.iconst 1, 1) := by decide +kernel
theorem dX10_clear_36 : decode cX10_clear 36 = .ok (.invokevirtual 147, 3) := by decide +kernel
theorem dX10_clear_39 : decode cX10_clear 39 = .ok (.iconst 0, 1) := by decide +kernel
theorem dX10_clear_40 : decode cX10_clear 40 = .ok (.istore 8, 2) := by decide +kernel
theorem dX10_clear_42 : decode cX10_clear 42 = .ok (.iconst 0, 1) := by decide +kernel
theorem dX10_clear_43 : decode cX10_clear 43 = .ok (.istore 9, 2) := by decide +kernel
theorem dX10_clear_45 : decode cX10_clear 45 = .ok (.iload 9, 2) := by decide +kernel
theorem dX10_clear_47 : decode cX10_clear 47 = .ok (.iload_n 1, 1) := by decide +kernel
theorem dX10_clear_48 : decode cX10_clear 48 = .ok (.if_icmp .ge 305, 3) := by decide +kernel
theorem dX10_clear_51 : decode cX10_clear 51 = .ok (.iload 8, 2) := by decide +kernel
theorem dX10_clear_53 : decode cX10_clear 53 = .ok (.istore 10, 2) := by decide +kernel
theorem dX10_clear_55 : decode cX10_clear 55 = .ok (.iload 10, 2) := by decide +kernel
theorem dX10_clear_57 : decode cX10_clear 57 = .ok (.aload_n 0, 1) := by decide +kernel
theorem dX10_clear_58 : decode cX10_clear 58 = .ok (.getfield 721, 3) := by decide +kernel
theorem dX10_clear_61 : decode cX10_clear 61 = .ok (.if_icmp .ge 25, 3) := by decide +kernel
theorem dX10_clear_64 : decode cX10_clear 64 = .ok (.aload_n 0, 1) := by decide +kernel
theorem dX10_clear_65 : decode cX10_clear 65 = .ok (.getfield 487, 3) := by decide +kernel
theorem dX10_clear_68 : decode cX10_clear 68 = .ok (.iload 10, 2) := by decide +kernel
theorem dX10_clear_70 : decode cX10_clear 70 = .ok (.aaload, 1) := by decide +kernel
theorem dX10_clear_71 : decode cX10_clear 71 = .ok (.iload 9, 2) := by decide +kernel
theorem dX10_clear_73 : decode cX10_clear 73 = .ok (.aaload, 1) := by decide +kernel
theorem dX10_clear_74 : decode cX10_clear 74 = .ok (.getfield 25, 3) := by decide +kernel
theorem dX10_clear_77 : decode cX10_clear 77 = .ok (.ifCond .ne 9, 3) := by decide +kernel
theorem dX10_clear_80 : decode cX10_clear 80 = .ok (.iinc 10 1, 3) := by decide +kernel
theorem dX10_clear_83 : decode cX10_clear 83 = .ok (.goto (-28), 3) := by decide +kernel
theorem dX10_clear_86 : decode cX10_clear 86 = .ok (.aload_n 0, 1) := by decide +kernel
theorem dX10_clear_87 : decode cX10_clear 87 = .ok (.getfield 493, 3) := by decide +kernel
theorem dX10_clear_90 : decode cX10_clear 90 = .ok (.iload 9, 2) := by decide +kernel
theorem dX10_clear_92 : decode cX10_clear 92 = .ok (.iload 10, 2) := by decide +kernel
theorem dX10_clear_94 : decode cX10_clear 94 = .ok (.aload_n 0, 1) := by decide +kernel
theorem dX10_clear_95 : decode cX10_clear 95 = .ok (.getfield 721, 3) := by decide +kernel
theorem dX10_clear_98 : decode cX10_clear 98 = .ok (.if_icmp .ge 7, 3) := by decide +kernel
theorem dX10_clear_101 : decode cX10_clear 101 = .ok (.iconst 1, 1) := by decide +kernel
theorem dX10_clear_102 : decode cX10_clear 102 = .ok (.goto 4, 3) := by decide +kernel
theorem dX10_clear_105 : decode cX10_clear 105 = .ok (.iconst 0, 1) := by decide +kernel
theorem dX10_clear_106 : decode cX10_clear 106 = .ok (.bastore, 1) := by decide +kernel
theorem dX10_clear_107 : decode cX10_clear 107 = .ok (.aload_n 0, 1) := by decide +kernel
theorem dX10_clear_108 : decode cX10_clear 108 = .ok (.getfield 493, 3) := by decide +kernel
theorem dX10_clear_111 : decode cX10_clear 111 = .ok (.iload 9, 2) := by decide +kernel
theorem dX10_clear_113 : decode cX10_clear 113 = .ok (.baload, 1) := by decide +kernel
theorem dX10_clear_114 : decode cX10_clear 114 = .ok (.ifCond .ne 6, 3) := by decide +kernel
theorem dX10_clear_117 : decode cX10_clear 117 = .ok (.goto 230, 3) := by decide +kernel
theorem dX10_clear_120 : decode cX10_clear 120 = .ok (.aload_n 0, 1) := by decide +kernel
theorem dX10_clear_121 : decode cX10_clear 121 = .ok (.getfield 496, 3) := by decide +kernel
theorem dX10_clear_124 : decode cX10_clear 124 = .ok (.iload 9, 2) := by decide +kernel
theorem dX10_clear_126 : decode cX10_clear 126 = .ok (.iload 8, 2) := by decide +kernel
theorem dX10_clear_128 : decode cX10_clear 128 = .ok (.iastore, 1) := by decide +kernel
theorem dX10_clear_129 : decode cX10_clear 129 = .ok (.aload_n 0, 1) := by decide +kernel
theorem dX10_clear_130 : decode cX10_clear 130 = .ok (.getfield 487, 3) := by decide +kernel
theorem dX10_clear_133 : decode cX10_clear 133 = .ok (.iload 10, 2) := by decide +kernel
theorem dX10_clear_135 : decode cX10_clear 135 = .ok (.aaload, 1) := by decide +kernel
theorem dX10_clear_136 : decode cX10_clear 136 = .ok (.astore 11, 2) := by decide +kernel
theorem dX10_clear_138 : decode cX10_clear 138 = .ok (.aload_n 0, 1) := by decide +kernel
theorem dX10_clear_139 : decode cX10_clear 139 = .ok (.getfield 487, 3) := by decide +kernel
theorem dX10_clear_142 : decode cX10_clear 142 = .ok (.iload 10, 2) := by decide +kernel
theorem dX10_clear_144 : decode cX10_clear 144 = .ok (.aload_n 0, 1) := by decide +kernel
theorem dX10_clear_145 : decode cX10_clear 145 = .ok (.getfield 487, 3) := by decide +kernel
theorem dX10_clear_148 : decode cX10_clear 148 = .ok (.iload 8, 2) := by decide +kernel
theorem dX10_clear_150 : decode cX10_clear 150 = .ok (.aaload, 1) := by decide +kernel
theorem dX10_clear_151 : decode cX10_clear 151 = .ok (.aastore, 1) := by decide +kernel
theorem dX10_clear_152 : decode cX10_clear 152 = .ok (.aload_n 0, 1) := by decide +kernel
theorem dX10_clear_153 : decode cX10_clear 153 = .ok (.getfield 487, 3) := by decide +kernel
theorem dX10_clear_156 : decode cX10_clear 156 = .ok (.iload 8, 2) := by decide +kernel
theorem dX10_clear_158 : decode cX10_clear 158 = .ok (.aload 11, 2) := by decide +kernel
theorem dX10_clear_160 : decode cX10_clear 160 = .ok (.aastore, 1) := by decide +kernel
theorem dX10_clear_161 : decode cX10_clear 161 = .ok (.aload 7, 2) := by decide +kernel
theorem dX10_clear_163 : decode cX10_clear 163 = .ok (.aload_n 0, 1) := by decide +kernel
theorem dX10_clear_164 : decode cX10_clear 164 = .ok (.getfield 487, 3) := by decide +kernel
theorem dX10_clear_167 : decode cX10_clear 167 = .ok (.iload 8, 2) := by decide +kernel
theorem dX10_clear_169 : decode cX10_clear 169 = .ok (.aaload, 1) := by decide +kernel
theorem dX10_clear_170 : decode cX10_clear 170 = .ok (.iload 9, 2) := by decide +kernel
theorem dX10_clear_172 : decode cX10_clear 172 = .ok (.aaload, 1) := by decide +kernel
theorem dX10_clear_173 : decode cX10_clear 173 = .ok (.invokestatic 62, 3) := by decide +kernel
theorem dX10_clear_176 : decode cX10_clear 176 = .ok (.iconst 0, 1) := by decide +kernel
theorem dX10_clear_177 : decode cX10_clear 177 = .ok (.istore 12, 2) := by decide +kernel
theorem dX10_clear_179 : decode cX10_clear 179 = .ok (.iload 12, 2) := by decide +kernel
theorem dX10_clear_181 : decode cX10_clear 181 = .ok (.aload_n 0, 1) := by decide +kernel
theorem dX10_clear_182 : decode cX10_clear 182 = .ok (.getfield 721, 3) := by decide +kernel
theorem dX10_clear_185 : decode cX10_clear 185 = .ok (.if_icmp .ge 153, 3) := by decide +kernel
theorem dX10_clear_188 : decode cX10_clear 188 = .ok (.iload 12, 2) := by decide +kernel
theorem dX10_clear_190 : decode cX10_clear 190 = .ok (.iload 8, 2) := by decide +kernel
theorem dX10_clear_192 : decode cX10_clear 192 = .ok (.if_icmp .ne 6, 3) := by decide +kernel
theorem dX10_clear_195 : decode cX10_clear 195 = .ok (.goto 137, 3) := by decide +kernel
theorem dX10_clear_198 : decode cX10_clear 198 = .ok (.aload 6, 2) := by decide +kernel
theorem dX10_clear_200 : decode cX10_clear 200 = .ok (.aload_n 0, 1) := by decide +kernel
theorem dX10_clear_201 : decode cX10_clear 201 = .ok (.getfield 487, 3) := by decide +kernel
theorem dX10_clear_204 : decode cX10_clear 204 = .ok (.iload 12, 2) := by decide +kernel
theorem dX10_clear_206 : decode cX10_clear 206 = .ok (.aaload, 1) := by decide +kernel
theorem dX10_clear_207 : decode cX10_clear 207 = .ok (.iload 9, 2) := by decide +kernel
theorem dX10_clear_209 : decode cX10_clear 209 = .ok (.aaload, 1) := by decide +kernel
theorem dX10_clear_210 : decode cX10_clear 210 = .ok (.invokestatic 62, 3) := by decide +kernel
theorem dX10_clear_213 : decode cX10_clear 213 = .ok (.iconst 0, 1) := by decide +kernel
theorem dX10_clear_214 : decode cX10_clear 214 = .ok (.istore 13, 2) := by decide +kernel
theorem dX10_clear_216 : decode cX10_clear 216 = .ok (.iload 13, 2) := by decide +kernel
theorem dX10_clear_218 : decode cX10_clear 218 = .ok (.iload_n 1, 1) := by decide +kernel
theorem dX10_clear_219 : decode cX10_clear 219 = .ok (.if_icmp .ge 113, 3) := by decide +kernel
theorem dX10_clear_222 : decode cX10_clear 222 = .ok (.aload_n 0, 1) := by decide +kernel
theorem dX10_clear_223 : decode cX10_clear 223 = .ok (.getfield 487, 3) := by decide +kernel
theorem dX10_clear_226 : decode cX10_clear 226 = .ok (.iload 12, 2) := by decide +kernel
theorem dX10_clear_228 : decode cX10_clear 228 = .ok (.aaload, 1) := by decide +kernel
theorem dX10_clear_229 : decode cX10_clear 229 = .ok (.iload 13, 2) := by decide +kernel
theorem dX10_clear_231 : decode cX10_clear 231 = .ok (.aaload, 1) := by decide +kernel
theorem dX10_clear_232 : decode cX10_clear 232 = .ok (.getfield 25, 3) := by decide +kernel
theorem dX10_clear_235 : decode cX10_clear 235 = .ok (.ifCond .ne 30, 3) := by decide +kernel
theorem dX10_clear_238 : decode cX10_clear 238 = .ok (.aload 6, 2) := by decide +kernel
theorem dX10_clear_240 : decode cX10_clear 240 = .ok (.getfield 25, 3) := by decide +kernel
theorem dX10_clear_243 : decode cX10_clear 243 = .ok (.ifCond .eq 83, 3) := by decide +kernel
theorem dX10_clear_246 : decode cX10_clear 246 = .ok (.aload_n 0, 1) := by decide +kernel
theorem dX10_clear_247 : decode cX10_clear 247 = .ok (.getfield 487, 3) := by decide +kernel
theorem dX10_clear_250 : decode cX10_clear 250 = .ok (.iload 8, 2) := by decide +kernel
theorem dX10_clear_252 : decode cX10_clear 252 = .ok (.aaload, 1) := by decide +kernel
theorem dX10_clear_253 : decode cX10_clear 253 = .ok (.iload 13, 2) := by decide +kernel
theorem dX10_clear_255 : decode cX10_clear 255 = .ok (.aaload, 1) := by decide +kernel
theorem dX10_clear_256 : decode cX10_clear 256 = .ok (.getfield 25, 3) := by decide +kernel
theorem dX10_clear_259 : decode cX10_clear 259 = .ok (.ifCond .ne 6, 3) := by decide +kernel
theorem dX10_clear_262 : decode cX10_clear 262 = .ok (.goto 64, 3) := by decide +kernel
theorem dX10_clear_265 : decode cX10_clear 265 = .ok (.aload 4, 2) := by decide +kernel
theorem dX10_clear_267 : decode cX10_clear 267 = .ok (.aload 7, 2) := by decide +kernel
theorem dX10_clear_269 : decode cX10_clear 269 = .ok (.aload_n 0, 1) := by decide +kernel
theorem dX10_clear_270 : decode cX10_clear 270 = .ok (.getfield 487, 3) := by decide +kernel
theorem dX10_clear_273 : decode cX10_clear 273 = .ok (.iload 12, 2) := by decide +kernel
theorem dX10_clear_275 : decode cX10_clear 275 = .ok (.aaload, 1) := by decide +kernel
theorem dX10_clear_276 : decode cX10_clear 276 = .ok (.iload 13, 2) := by decide +kernel
theorem dX10_clear_278 : decode cX10_clear 278 = .ok (.aaload, 1) := by decide +kernel
theorem dX10_clear_279 : decode cX10_clear 279 = .ok (.invokestatic 106, 3) := by decide +kernel
theorem dX10_clear_282 : decode cX10_clear 282 = .ok (.aload 5, 2) := by decide +kernel
theorem dX10_clear_284 : decode cX10_clear 284 = .ok (.aload 6, 2) := by decide +kernel
theorem dX10_clear_286 : decode cX10_clear 286 = .ok (.aload_n 0, 1) := by decide +kernel
theorem dX10_clear_287 : decode cX10_clear 287 = .ok (.getfield 487, 3) := by decide +kernel
theorem dX10_clear_290 : decode cX10_clear 290 = .ok (.iload 8, 2) := by decide +kernel
theorem dX10_clear_292 : decode cX10_clear 292 = .ok (.aaload, 1) := by decide +kernel
theorem dX10_clear_293 : decode cX10_clear 293 = .ok (.iload 13, 2) := by decide +kernel
theorem dX10_clear_295 : decode cX10_clear 295 = .ok (.aaload, 1) := by decide +kernel
theorem dX10_clear_296 : decode cX10_clear 296 = .ok (.invokestatic 106, 3) := by decide +kernel
theorem dX10_clear_299 : decode cX10_clear 299 = .ok (.aload 4, 2) := by decide +kernel
theorem dX10_clear_301 : decode cX10_clear 301 = .ok (.aload 4, 2) := by decide +kernel
theorem dX10_clear_303 : decode cX10_clear 303 = .ok (.aload 5, 2) := by decide +kernel
theorem dX10_clear_305 : decode cX10_clear 305 = .ok (.iconst 1, 1) := by decide +kernel
theorem dX10_clear_306 : decode cX10_clear 306 = .ok (.invokestatic 101, 3) := by decide +kernel
theorem dX10_clear_309 : decode cX10_clear 309 = .ok (.aload_n 0, 1) := by decide +kernel
theorem dX10_clear_310 : decode cX10_clear 310 = .ok (.aload_n 0, 1) := by decide +kernel
theorem dX10_clear_311 : decode cX10_clear 311 = .ok (.getfield 487, 3) := by decide +kernel
theorem dX10_clear_314 : decode cX10_clear 314 = .ok (.iload 12, 2) := by decide +kernel
theorem dX10_clear_316 : decode cX10_clear 316 = .ok (.aaload, 1) := by decide +kernel
theorem dX10_clear_317 : decode cX10_clear 317 = .ok (.iload 13, 2) := by decide +kernel
theorem dX10_clear_319 : decode cX10_clear 319 = .ok (.aaload, 1) := by decide +kernel
theorem dX10_clear_320 : decode cX10_clear 320 = .ok (.aload 4, 2) := by decide +kernel
theorem dX10_clear_322 : decode cX10_clear 322 = .ok (.aload_n 3, 1) := by decide +kernel
theorem dX10_clear_323 : decode cX10_clear 323 = .ok (.invokevirtual 110, 3) := by decide +kernel
theorem dX10_clear_326 : decode cX10_clear 326 = .ok (.iinc 13 1, 3) := by decide +kernel
theorem dX10_clear_329 : decode cX10_clear 329 = .ok (.goto (-113), 3) := by decide +kernel
theorem dX10_clear_332 : decode cX10_clear 332 = .ok (.iinc 12 1, 3) := by decide +kernel
theorem dX10_clear_335 : decode cX10_clear 335 = .ok (.goto (-156), 3) := by decide +kernel
theorem dX10_clear_338 : decode cX10_clear 338 = .ok (.aload_n 3, 1) := by decide +kernel
theorem dX10_clear_339 : decode cX10_clear 339 = .ok (.aload 7, 2) := by decide +kernel
theorem dX10_clear_341 : decode cX10_clear 341 = .ok (.invokestatic 62, 3) := by decide +kernel
theorem dX10_clear_344 : decode cX10_clear 344 = .ok (.iinc 8 1, 3) := by decide +kernel
theorem dX10_clear_347 : decode cX10_clear 347 = .ok (.iinc 9 1, 3) := by decide +kernel
theorem dX10_clear_350 : decode cX10_clear 350 = .ok (.goto (-305), 3) := by decide +kernel
theorem dX10_clear_353 : decode cX10_clear 353 = .ok (.aload_n 0, 1) := by decide +kernel
theorem dX10_clear_354 : decode cX10_clear 354 = .ok (.iload_n 2, 1) := by decide +kernel
theorem dX10_clear_355 : decode cX10_clear 355 = .ok (.iconst 1, 1) := by decide +kernel
theorem dX10_clear_356 : decode cX10_clear 356 = .ok (.iadd, 1) := by decide +kernel
theorem dX10_clear_357 : decode cX10_clear 357 = .ok (.putfield 21, 3) := by decide +kernel
theorem dX10_clear_360 : decode cX10_clear 360 = .ok (.aload_n 3, 1) := by decide +kernel
theorem dX10_clear_361 : decode cX10_clear 361 = .ok (.areturn, 1) := by decide +kernel
theorem dX10_tries_0 : decode cX10_tries 0 = .ok (.iload_n 1, 1) := by decide +kernel
theorem dX10_tries_1 : decode cX10_tries 1 = .ok (.iconst 1, 1) := by decide +kernel
theorem dX10_tries_2 : decode cX10_tries 2 = .ok (.iadd, 1) := by decide +kernel
theorem dX10_tries_3 : decode cX10_tries 3 = .ok (.iload_n 2, 1) := by decide +kernel
theorem dX10_tries_4 : decode cX10_tries 4 = .ok (.iconst 1, 1) := by decide +kernel
theorem dX10_tries_5 : decode cX10_tries 5 = .ok (.iadd, 1) := by decide +kernel
theorem dX10_tries_6 : decode cX10_tries 6 = .ok (.imul, 1) := by decide +kernel
theorem dX10_tries_7 : decode cX10_tries 7 = .ok (.istore_n 3, 1) := by decide +kernel
theorem dX10_tries_8 : decode cX10_tries 8 = .ok (.aload_n 0, 1) := by decide +kernel
theorem dX10_tries_9 : decode cX10_tries 9 = .ok (.getfield 607, 3) := by decide +kernel
theorem dX10_tries_12 : decode cX10_tries 12 = .ok (.iload_n 1, 1) := by decide +kernel
theorem dX10_tries_13 : decode cX10_tries 13 = .ok (.isub, 1) := by decide +kernel
theorem dX10_tries_14 : decode cX10_tries 14 = .ok (.istore 4, 2) := by decide +kernel
theorem dX10_tries_16 : decode cX10_tries 16 = .ok (.iconst 0, 1) := by decide +kernel
theorem dX10_tries_17 : decode cX10_tries 17 = .ok (.istore 5, 2) := by decide +kernel
theorem dX10_tries_19 : decode cX10_tries 19 = .ok (.iload 5, 2) := by decide +kernel
theorem dX10_tries_21 : decode cX10_tries 21 = .ok (.iload 4, 2) := by decide +kernel
theorem dX10_tries_23 : decode cX10_tries 23 = .ok (.if_icmp .ge 83, 3) := by decide +kernel
theorem dX10_tries_26 : decode cX10_tries 26 = .ok (.iconst 0, 1) := by decide +kernel
theorem dX10_tries_27 : decode cX10_tries 27 = .ok (.istore 6, 2) := by decide +kernel
theorem dX10_tries_29 : decode cX10_tries 29 = .ok (.iload 6, 2) := by decide +kernel
theorem dX10_tries_31 : decode cX10_tries 31 = .ok (.iload_n 1, 1) := by decide +kernel
theorem dX10_tries_32 : decode cX10_tries 32 = .ok (.if_icmp .gt 68, 3) := by decide +kernel
theorem dX10_tries_35 : decode cX10_tries 35 = .ok (.iconst 1, 1) := by decide +kernel
theorem dX10_tries_36 : decode cX10_tries 36 = .ok (.istore 7, 2) := by decide +kernel
theorem dX10_tries_38 : decode cX10_tries 38 = .ok (.iconst 0, 1) := by decide +kernel
theorem dX10_tries_39 : decode cX10_tries 39 = .ok (.istore 8, 2) := by decide +kernel
theorem dX10_tries_41 : decode cX10_tries 41 = .ok (.iload 8, 2) := by decide +kernel
theorem dX10_tries_43 : decode cX10_tries 43 = .ok (.iload_n 2, 1) := by decide +kernel
theorem dX10_tries_44 : decode cX10_tries 44 = .ok (.if_icmp .gt 50, 3) := by decide +kernel
theorem dX10_tries_47 : decode cX10_tries 47 = .ok (.aload_n 0, 1) := by decide +kernel
theorem dX10_tries_48 : decode cX10_tries 48 = .ok (.getfield 532, 3) := by decide +kernel
theorem dX10_tries_51 : decode cX10_tries 51 = .ok (.iload 5, 2) := by decide +kernel
theorem dX10_tries_53 : decode cX10_tries 53 = .ok (.aaload, 1) := by decide +kernel
theorem dX10_tries_54 : decode cX10_tries 54 = .ok (.iload 6, 2) := by decide +kernel
theorem dX10_tries_56 : decode cX10_tries 56 = .ok (.iload_n 2, 1) := by decide +kernel
theorem dX10_tries_57 : decode cX10_tries 57 = .ok (.iconst 1, 1) := by decide +kernel
theorem dX10_tries_58 : decode cX10_tries 58 = .ok (.iadd, 1) := by decide +kernel
theorem dX10_tries_59 : decode cX10_tries 59 = .ok (.imul, 1) := by decide +kernel
theorem dX10_tries_60 : decode cX10_tries 60 = .ok (.iload 8, 2) := by decide +kernel
theorem dX10_tries_62 : decode cX10_tries 62 = .ok (.iadd, 1) := by decide +kernel
theorem dX10_tries_63 : decode cX10_tries 63 = .ok (.iload 7, 2) := by decide +kernel
theorem dX10_tries_65 : decode cX10_tries 65 = .ok (.aload_n 0, 1) := by decide +kernel
theorem dX10_tries_66 : decode cX10_tries 66 = .ok (.getfield 465, 3) := by decide +kernel
theorem dX10_tries_69 : decode cX10_tries 69 = .ok (.iload 5, 2) := by decide +kernel
theorem dX10_tries_71 : decode cX10_tries 71 = .ok (.iload 6, 2) := by decide +kernel
theorem dX10_tries_73 : decode cX10_tries 73 = .ok (.iadd, 1) := by decide +kernel
theorem dX10_tries_74 : decode cX10_tries 74 = .ok (.iaload, 1) := by decide +kernel
theorem dX10_tries_75 : decode cX10_tries 75 = .ok (.invokestatic 56, 3) := by decide +kernel
theorem dX10_tries_78 : decode cX10_tries 78 = .ok (.iastore, 1) := by decide +kernel
theorem dX10_tries_79 : decode cX10_tries 79 = .ok (.iload 7, 2) := by decide +kernel
theorem dX10_tries_81 : decode cX10_tries 81 = .ok (.iload 5, 2) := by decide +kernel
theorem dX10_tries_83 : decode cX10_tries 83 = .ok (.invokestatic 56, 3) := by decide +kernel
theorem dX10_tries_86 : decode cX10_tries 86 = .ok (.istore 7, 2) := by decide +kernel
theorem dX10_tries_88 : decode cX10_tries 88 = .ok (.iinc 8 1, 3) := by decide +kernel
theorem dX10_tries_91 : decode cX10_tries 91 = .ok (.goto (-50), 3) := by decide +kernel
theorem dX10_tries_94 : decode cX10_tries 94 = .ok (.iinc 6 1, 3) := by decide +kernel
theorem dX10_tries_97 : decode cX10_tries 97 = .ok (.goto (-68), 3) := by decide +kernel
theorem dX10_tries_100 : decode cX10_tries 100 = .ok (.iinc 5 1, 3) := by decide +kernel
theorem dX10_tries_103 : decode cX10_tries 103 = .ok (.goto (-84), 3) := by decide +kernel
theorem dX10_tries_106 : decode cX10_tries 106 = .ok (.iconst 0, 1) := by decide +kernel
theorem dX10_tries_107 : decode cX10_tries 107 = .ok (.istore 5, 2) := by decide +kernel
theorem dX10_tries_109 : decode cX10_tries 109 = .ok (.iconst (-1), 1) := by decide +kernel
theorem dX10_tries_110 : decode cX10_tries 110 = .ok (.istore 6, 2) := by decide +kernel
theorem dX10_tries_112 : decode cX10_tries 112 = .ok (.iconst 0, 1) := by decide +kernel
theorem dX10_tries_113 : decode cX10_tries 113 = .ok (.istore 7, 2) := by decide +kernel
theorem dX10_tries_115 : decode cX10_tries 115 = .ok (.iload 7, 2) := by decide +kernel
theorem dX10_tries_117 : decode cX10_tries 117 = .ok (.iload_n 3, 1) := by decide +kernel
theorem dX10_tries_118 : decode cX10_tries 118 = .ok (.if_icmp .ge 221, 3) := by decide +kernel
theorem dX10_tries_121 : decode cX10_tries 121 = .ok (.iload 6, 2) := by decide +kernel
theorem dX10_tries_123 : decode cX10_tries 123 = .ok (.ifCond .ge 216, 3) := by decide +kernel
theorem dX10_tries_126 : decode cX10_tries 126 = .ok (.iload 5, 2) := by decide +kernel
theorem dX10_tries_128 : decode cX10_tries 128 = .ok (.istore 8, 2) := by decide +kernel
theorem dX10_tries_130 : decode cX10_tries 130 = .ok (.iload 8, 2) := by decide +kernel
theorem dX10_tries_132 : decode cX10_tries 132 = .ok (.iload 4, 2) := by decide +kernel
theorem dX10_tries_134 : decode cX10_tries 134 = .ok (.if_icmp .ge 22, 3) := by decide +kernel
theorem dX10_tries_137 : decode cX10_tries 137 = .ok (.aload_n 0, 1) := by decide +kernel
theorem dX10_tries_138 : decode cX10_tries 138 = .ok (.getfield 532, 3) := by decide +kernel
theorem dX10_tries_141 : decode cX10_tries 141 = .ok (.iload 8, 2) := by decide +kernel
theorem dX10_tries_143 : decode cX10_tries 143 = .ok (.aaload, 1) := by decide +kernel
theorem dX10_tries_144 : decode cX10_tries 144 = .ok (.iload 7, 2) := by decide +kernel
theorem dX10_tries_146 : decode cX10_tries 146 = .ok (.iaload, 1) := by decide +kernel
theorem dX10_tries_147 : decode cX10_tries 147 = .ok (.ifCond .ne 9, 3) := by decide +kernel
theorem dX10_tries_150 : decode cX10_tries 150 = .ok (.iinc 8 1, 3) := by decide +kernel
theorem dX10_tries_153 : decode cX10_tries 153 = .ok (.goto (-23), 3) := by decide +kernel
theorem dX10_tries_156 : decode cX10_tries 156 = .ok (.iload 8, 2) := by decide +kernel
theorem dX10_tries_158 : decode cX10_tries 158 = .ok (.iload 4, 2) := by decide +kernel
theorem dX10_tries_160 : decode cX10_tries 160 = .ok (.if_icmp .ne 10, 3) := by decide +kernel
theorem dX10_tries_163 : decode cX10_tries 163 = .ok (.iload 7, 2) := by decide +kernel
theorem dX10_tries_165 : decode cX10_tries 165 = .ok (.istore 6, 2) := by decide +kernel
theorem dX10_tries_167 : decode cX10_tries 167 = .ok (.goto 166, 3) := by decide +kernel
theorem dX10_tries_170 : decode cX10_tries 170 = .ok (.aload_n 0, 1) := by decide +kernel
theorem dX10_tries_171 : decode cX10_tries 171 = .ok (.getfield 532, 3) := by decide +kernel
theorem dX10_tries_174 : decode cX10_tries 174 = .ok (.iload 8, 2) := by decide +kernel
theorem dX10_tries_176 : decode cX10_tries 176 = .ok (.aaload, 1) := by decide +kernel
theorem dX10_tries_177 : decode cX10_tries 177 = .ok (.astore 9, 2) := by decide +kernel
theorem dX10_tries_179 : decode cX10_tries 179 = .ok (.aload_n 0, 1) := by decide +kernel
theorem dX10_tries_180 : decode cX10_tries 180 = .ok (.getfield 532, 3) := by decide +kernel
theorem dX10_tries_183 : decode cX10_tries 183 = .ok (.iload 8, 2) := by decide +kernel
theorem dX10_tries_185 : decode cX10_tries 185 = .ok (.aload_n 0, 1) := by decide +kernel
theorem dX10_tries_186 : decode cX10_tries 186 = .ok (.getfield 532, 3) := by decide +kernel
theorem dX10_tries_189 : decode cX10_tries 189 = .ok (.iload 5, 2) := by decide +kernel
theorem dX10_tries_191 : decode cX10_tries 191 = .ok (.aaload, 1) := by decide +kernel
theorem dX10_tries_192 : decode cX10_tries 192 = .ok (.aastore, 1) := by decide +kernel
theorem dX10_tries_193 : decode cX10_tries 193 = .ok (.aload_n 0, 1) := by decide +kernel
theorem dX10_tries_194 : decode cX10_tries 194 = .ok (.getfield 532, 3) := by decide +kernel
theorem dX10_tries_197 : decode cX10_tries 197 = .ok (.iload 5, 2) := by decide +kernel
theorem dX10_tries_199 : decode cX10_tries 199 = .ok (.aload 9, 2) := by decide +kernel
theorem dX10_tries_201 : decode cX10_tries 201 = .ok (.aastore, 1) := by decide +kernel
theorem dX10_tries_202 : decode cX10_tries 202 = .ok (.aload 9, 2) := by decide +kernel
theorem dX10_tries_204 : decode cX10_tries 204 = .ok (.iload 7, 2) := by decide +kernel
theorem dX10_tries_206 : decode cX10_tries 206 = .ok (.iaload, 1) := by decide +kernel
theorem dX10_tries_207 : decode cX10_tries 207 = .ok (.invokestatic 13, 3) := by decide +kernel
theorem dX10_tries_210 : decode cX10_tries 210 = .ok (.istore 10, 2) := by decide +kernel
theorem dX10_tries_212 : decode cX10_tries 212 = .ok (.iconst 0, 1) := by decide +kernel
theorem dX10_tries_213 : decode cX10_tries 213 = .ok (.istore 11, 2) := by decide +kernel
theorem dX10_tries_215 : decode cX10_tries 215 = .ok (.iload 11, 2) := by decide +kernel
theorem dX10_tries_217 : decode cX10_tries 217 = .ok (.iload_n 3, 1) := by decide +kernel
theorem dX10_tries_218 : decode cX10_tries 218 = .ok (.if_icmp .ge 24, 3) := by decide +kernel
theorem dX10_tries_221 : decode cX10_tries 221 = .ok (.aload 9, 2) := by decide +kernel
theorem dX10_tries_223 : decode cX10_tries 223 = .ok (.iload 11, 2) := by decide +kernel
theorem dX10_tries_225 : decode cX10_tries 225 = .ok (.aload 9, 2) := by decide +kernel
theorem dX10_tries_227 : decode cX10_tries 227 = .ok (.iload 11, 2) := by decide +kernel
theorem dX10_tries_229 : decode cX10_tries 229 = .ok (.iaload, 1) := by decide +kernel
theorem dX10_tries_230 : decode cX10_tries 230 = .ok (.iload 10, 2) := by decide +kernel
theorem dX10_tries_232 : decode cX10_tries 232 = .ok (.invokestatic 56, 3) := by decide +kernel
theorem dX10_tries_235 : decode cX10_tries 235 = .ok (.iastore, 1) := by decide +kernel
theorem dX10_tries_236 : decode cX10_tries 236 = .ok (.iinc 11 1, 3) := by decide +kernel
theorem dX10_tries_239 : decode cX10_tries 239 = .ok (.goto (-24), 3) := by decide +kernel
theorem dX10_tries_242 : decode cX10_tries 242 = .ok (.iconst 0, 1) := by decide +kernel
theorem dX10_tries_243 : decode cX10_tries 243 = .ok (.istore 11, 2) := by decide +kernel
theorem dX10_tries_245 : decode cX10_tries 245 = .ok (.iload 11, 2) := by decide +kernel
theorem dX10_tries_247 : decode cX10_tries 247 = .ok (.iload 4, 2) := by decide +kernel
theorem dX10_tries_249 : decode cX10_tries 249 = .ok (.if_icmp .ge 81, 3) := by decide +kernel
theorem dX10_tries_252 : decode cX10_tries 252 = .ok (.aload_n 0, 1) := by decide +kernel
theorem dX10_tries_253 : decode cX10_tries 253 = .ok (.getfield 532, 3) := by decide +kernel
theorem dX10_tries_256 : decode cX10_tries 256 = .ok (.iload 11, 2) := by decide +kernel
theorem dX10_tries_258 : decode cX10_tries 258 = .ok (.aaload, 1) := by decide +kernel
theorem dX10_tries_259 : decode cX10_tries 259 = .ok (.iload 7, 2) := by decide +kernel
theorem dX10_tries_261 : decode cX10_tries 261 = .ok (.iaload, 1) := by decide +kernel
theorem dX10_tries_262 : decode cX10_tries 262 = .ok (.istore 12, 2) := by decide +kernel
theorem dX10_tries_264 : decode cX10_tries 264 = .ok (.iconst 0, 1) := by decide +kernel
theorem dX10_tries_265 : decode cX10_tries 265 = .ok (.istore 13, 2) := by decide +kernel
theorem dX10_tries_267 : decode cX10_tries 267 = .ok (.iload 13, 2) := by decide +kernel
theorem dX10_tries_269 : decode cX10_tries 269 = .ok (.iload_n 3, 1) := by decide +kernel
theorem dX10_tries_270 : decode cX10_tries 270 = .ok (.if_icmp .ge 54, 3) := by decide +kernel
theorem dX10_tries_273 : decode cX10_tries 273 = .ok (.iload 11, 2) := by decide +kernel
theorem dX10_tries_275 : decode cX10_tries 275 = .ok (.iload 5, 2) := by decide +kernel
theorem dX10_tries_277 : decode cX10_tries 277 = .ok (.if_icmp .eq 47, 3) := by decide +kernel
theorem dX10_tries_280 : decode cX10_tries 280 = .ok (.iload 12, 2) := by decide +kernel
theorem dX10_tries_282 : decode cX10_tries 282 = .ok (.ifCond .eq 42, 3) := by decide +kernel
theorem dX10_tries_285 : decode cX10_tries 285 = .ok (.aload_n 0, 1) := by decide +kernel
theorem dX10_tries_286 : decode cX10_tries 286 = .ok (.getfield 532, 3) := by decide +kernel
theorem dX10_tries_289 : decode cX10_tries 289 = .ok (.iload 11, 2) := by decide +kernel
theorem dX10_tries_291 : decode cX10_tries 291 = .ok (.aaload, 1) := by decide +kernel
theorem dX10_tries_292 : decode cX10_tries 292 = .ok (.iload 13, 2) := by decide +kernel
theorem dX10_tries_294 : decode cX10_tries 294 = .ok (.aload_n 0, 1) := by decide +kernel
theorem dX10_tries_295 : decode cX10_tries 295 = .ok (.getfield 532, 3) := by decide +kernel
theorem dX10_tries_298 : decode cX10_tries 298 = .ok (.iload 11, 2) := by decide +kernel
theorem dX10_tries_300 : decode cX10_tries 300 = .ok (.aaload, 1) := by decide +kernel
theorem dX10_tries_301 : decode cX10_tries 301 = .ok (.iload 13, 2) := by decide +kernel
theorem dX10_tries_303 : decode cX10_tries 303 = .ok (.iaload, 1) := by decide +kernel
theorem dX10_tries_304 : decode cX10_tries 304 = .ok (.iload 12, 2) := by decide +kernel
theorem dX10_tries_306 : decode cX10_tries 306 = .ok (.aload 9, 2) := by decide +kernel
theorem dX10_tries_308 : decode cX10_tries 308 = .ok (.iload 13, 2) := by decide +kernel
theorem dX10_tries_310 : decode cX10_tries 310 = .ok (.iaload, 1) := by decide +kernel
theorem dX10_tries_311 : decode cX10_tries 311 = .ok (.invokestatic 56, 3) := by decide +kernel
theorem dX10_tries_314 : decode cX10_tries 314 = .ok (.invokestatic 46, 3) := by decide +kernel
theorem dX10_tries_317 : decode cX10_tries 317 = .ok (.iastore, 1) := by decide +kernel
theorem dX10_tries_318 : decode cX10_tries 318 = .ok (.iinc 13 1, 3) := by decide +kernel
theorem dX10_tries_321 : decode cX10_tries 321 = .ok (.goto (-54), 3) := by decide +kernel
theorem dX10_tries_324 : decode cX10_tries 324 = .ok (.iinc 11 1, 3) := by decide +kernel
theorem dX10_tries_327 : decode cX10_tries 327 = .ok (.goto (-82), 3) := by decide +kernel
theorem dX10_tries_330 : decode cX10_tries 330 = .ok (.iinc 5 1, 3) := by decide +kernel
theorem dX10_tries_333 : decode cX10_tries 333 = .ok (.iinc 7 1, 3) := by decide +kernel
theorem dX10_tries_336 : decode cX10_tries 336 = .ok (.goto (-221), 3) := by decide +kernel
theorem dX10_tries_339 : decode cX10_tries 339 = .ok (.iconst 0, 1) := by decide +kernel
theorem dX10_tries_340 : decode cX10_tries 340 = .ok (.istore 7, 2) := by decide +kernel
theorem dX10_tries_342 : decode cX10_tries 342 = .ok (.iload 7, 2) := by decide +kernel
theorem dX10_tries_344 : decode cX10_tries 344 = .ok (.iload_n 3, 1) := by decide +kernel
theorem dX10_tries_345 : decode cX10_tries 345 = .ok (.if_icmp .ge 57, 3) := by decide +kernel
theorem dX10_tries_348 : decode cX10_tries 348 = .ok (.iload 6, 2) := by decide +kernel
theorem dX10_tries_350 : decode cX10_tries 350 = .ok (.ifCond .lt 52, 3) := by decide +kernel
theorem dX10_tries_353 : decode cX10_tries 353 = .ok (.aload_n 0, 1) := by decide +kernel
theorem dX10_tries_354 : decode cX10_tries 354 = .ok (.getfield 535, 3) := by decide +kernel
theorem dX10_tries_357 : decode cX10_tries 357 = .ok (.iload 7, 2) := by decide +kernel
theorem dX10_tries_359 : decode cX10_tries 359 = .ok (.iload 7, 2) := by decide +kernel
theorem dX10_tries_361 : decode cX10_tries 361 = .ok (.iload 6, 2) := by decide +kernel
theorem dX10_tries_363 : decode cX10_tries 363 = .ok (.if_icmp .ge 20, 3) := by decide +kernel
theorem dX10_tries_366 : decode cX10_tries 366 = .ok (.iconst 0, 1) := by decide +kernel
theorem dX10_tries_367 : decode cX10_tries 367 = .ok (.aload_n 0, 1) := by decide +kernel
theorem dX10_tries_368 : decode cX10_tries 368 = .ok (.getfield 532, 3) := by decide +kernel
theorem dX10_tries_371 : decode cX10_tries 371 = .ok (.iload 7, 2) := by decide +kernel
theorem dX10_tries_373 : decode cX10_tries 373 = .ok (.aaload, 1) := by decide +kernel
theorem dX10_tries_374 : decode cX10_tries 374 = .ok (.iload 6, 2) := by decide +kernel
theorem dX10_tries_376 : decode cX10_tries 376 = .ok (.iaload, 1) := by decide +kernel
theorem dX10_tries_377 : decode cX10_tries 377 = .ok (.invokestatic 46, 3) := by decide +kernel
theorem dX10_tries_380 : decode cX10_tries 380 = .ok (.goto 15, 3) := by decide +kernel
theorem dX10_tries_383 : decode cX10_tries 383 = .ok (.iload 7, 2) := by decide +kernel
theorem dX10_tries_385 : decode cX10_tries 385 = .ok (.iload 6, 2) := by decide +kernel
theorem dX10_tries_387 : decode cX10_tries 387 = .ok (.if_icmp .ne 7, 3) := by decide +kernel
theorem dX10_tries_390 : decode cX10_tries 390 = .ok (.iconst 1, 1) := by decide +kernel
theorem dX10_tries_391 : decode cX10_tries 391 = .ok (.goto 4, 3) := by decide +kernel
theorem dX10_tries_394 : decode cX10_tries 394 = .ok (.iconst 0, 1) := by decide +kernel
theorem dX10_tries_395 : decode cX10_tries 395 = .ok (.iastore, 1) := by decide +kernel
theorem dX10_tries_396 : decode cX10_tries 396 = .ok (.iinc 7 1, 3) := by decide +kernel
theorem dX10_tries_399 : decode cX10_tries 399 = .ok (.goto (-57), 3) := by decide +kernel
theorem dX10_tries_402 : decode cX10_tries 402 = .ok (.iload 6, 2) := by decide +kernel
theorem dX10_tries_404 : decode cX10_tries 404 = .ok (.ifCond .lt 7, 3) := by decide +kernel
theorem dX10_tries_407 : decode cX10_tries 407 = .ok (.iconst 1, 1) := by decide +kernel
theorem dX10_tries_408 : decode cX10_tries 408 = .ok (.goto 4, 3) := by decide +kernel
theorem dX10_tries_411 : decode cX10_tries 411 = .ok (.iconst 0, 1) := by decide +kernel
theorem dX10_tries_412 : decode cX10_tries 412 = .ok (.ireturn, 1) := by decide +kernel
abbrev W_X10_sylvester (g : GX) (d : Nat) (av : List Value) (Q : QT) (n : Nat) (pc : Nat) (ls : LV) (stk : List Value) (h : Hp) : Prop := RJ g m_X10_sylvester (d + 1) 0 0 av Q pc ls stk n h 0 0
theorem s_X10_sylvester_0 {g : GX} {d : Nat} {av : List Value} {Q : QT} {n : Nat} {h : Hp} {a1 : Nat} {a2 : Nat} {x3 : Int32} {x4 : Int32} {x5 : Int32} (hp : g.2.2.2.2 = true) (t1 : lay a1 = (0, 14, 2)) (t2 : lay a2 = (0, 14, 2)) (H : W_X10_sylvester g d av Q n 9 [some (.ref 2759), some (.ref a1), some (.ref a2), some (.int x3), some (.int x4), some (.int x5), some (.int (x3 + x4)), some (.int (0 : Int32)), none, none, none, none, none, none] [] h) : W_X10_sylvester g d av Q n 0 [some (.ref 2759), some (.ref a1), some (.ref a2), some (.int x3), some (.int x4), some (.int x5), none, none, none, none, none, none, none, none] [] h := by
  refine r_iload_n dX10_sylvester_0 rfl rfl ?_
  refine r_iload dX10_sylvester_1 rfl ?_
  refine r_iadd dX10_sylvester_3 ?_
  refine r_istore (ls2 := [some (.ref 2759), some (.ref a1), some (.ref a2), some (.int x3), some (.int x4), some (.int x5), some (.int (x3 + x4)), none, none, none, none, none, none, none]) dX10_sylvester_4 (by decide) rfl ?_
  refine r_iconst (v := (0 : Int32)) dX10_sylvester_6 rfl ?_
  refine r_istore (ls2 := [some (.ref 2759), some (.ref a1), some (.ref a2), some (.int x3), some (.int x4), some (.int x5), some (.int (x3 + x4)), some (.int (0 : Int32)), none, none, none, none, none, none]) dX10_sylvester_7 (by decide) rfl ?_
  exact H
theorem s_X10_sylvester_9 {g : GX} {d : Nat} {av : List Value} {Q : QT} {n : Nat} {h : Hp} {a1 : Nat} {a2 : Nat} {x3 : Int32} {x4 : Int32} {x5 : Int32} {x6 : Int32} {x7 : Int32} (hp : g.2.2.2.2 = true) (t1 : lay a1 = (0, 14, 2)) (t2 : lay a2 = (0, 14, 2)) (H : ((x6 ≤ x7) → (W_X10_sylvester g d av Q n 52 [some (.ref 2759), some (.ref a1), some (.ref a2), some (.int x3), some (.int x4), some (.int x5), some (.int x6), some (.int (0 : Int32)), none, none, none, none, none, none] [] h)) ∧ ((¬ x6 ≤ x7) → (W_X10_sylvester g d av Q n 19 [some (.ref 2759), some (.ref a1), some (.ref a2), some (.int x3), some (.int x4), some (.int x5), some (.int x6), some (.int x7), some (.int (0 : Int32)), none, none, none, none, none] [] h))) : W_X10_sylvester g d av Q n 9 [some (.ref 2759), some (.ref a1), some (.ref a2), some (.int x3), some (.int x4), some (.int x5), some (.int x6), some (.int x7), none, none, none, none, none, none] [] h := by
  refine r_iload dX10_sylvester_9 rfl ?_
  refine r_iload dX10_sylvester_11 rfl ?_
  refine r_icmp_ge (tgt := 49) dX10_sylvester_13 rfl (fun cH => ?_) (fun cH => ?_)
  · replace H := H.1 cH
    refine r_iconst (v := (0 : Int32)) dX10_sylvester_49 rfl ?_
    refine r_istore (ls2 := [some (.ref 2759), some (.ref a1), some (.ref a2), some (.int x3), some (.int x4), some (.int x5), some (.int x6), some (.int (0 : Int32)), none, none, none, none, none, none]) dX10_sylvester_50 (by decide) rfl ?_
    exact H
  · replace H := H.2 cH
    refine r_iconst (v := (0 : Int32)) dX10_sylvester_16 rfl ?_
    refine r_istore (ls2 := [some (.ref 2759), some (.ref a1), some (.ref a2), some (.int x3), some (.int x4), some (.int x5), some (.int x6), some (.int x7), some (.int (0 : Int32)), none, none, none, none, none]) dX10_sylvester_17 (by decide) rfl ?_
    exact H
theorem s_X10_sylvester_19 {g : GX} {d : Nat} {av : List Value} {Q : QT} {n : Nat} {h : Hp} {a1 : Nat} {a2 : Nat} {x3 : Int32} {x4 : Int32} {x5 : Int32} {x6 : Int32} {x7 : Int32} {x8 : Int32} (hp : g.2.2.2.2 = true) (t1 : lay a1 = (0, 14, 2)) (t2 : lay a2 = (0, 14, 2)) (H : ((x6 ≤ x8) → (W_X10_sylvester g d av Q n 9 [some (.ref 2759), some (.ref a1), some (.ref a2), some (.int x3), some (.int x4), some (.int x5), some (.int x6), some (.int (x7 + (1 : Int32))), none, none, none, none, none, none] [] h)) ∧ ((¬ x6 ≤ x8) → (vp_in x7 48 ∧ ∃ r1 Lr1, rr h 2859 (x7).toNatClampNeg = some r1 ∧ lay r1 = (1, Lr1, 0) ∧ (vp_in x8 Lr1 ∧ ∀ h2, h2 = wi h r1 (x8).toNatClampNeg (0 : Int32) → (W_X10_sylvester g d av Q n 19 [some (.ref 2759), some (.ref a1), some (.ref a2), some (.int x3), some (.int x4), some (.int x5), some (.int x6), some (.int x7), some (.int (x8 + (1 : Int32))), none, none, none, none, none] [] h2))))) : W_X10_sylvester g d av Q n 19 [some (.ref 2759), some (.ref a1), some (.ref a2), some (.int x3), some (.int x4), some (.int x5), some (.int x6), some (.int x7), some (.int x8), none, none, none, none, none] [] h := by
  refine r_iload dX10_sylvester_19 rfl ?_
  refine r_iload dX10_sylvester_21 rfl ?_
  refine r_icmp_ge (tgt := 43) dX10_sylvester_23 rfl (fun cH => ?_) (fun cH => ?_)
  · replace H := H.1 cH
    refine r_iinc (v := (x7 + (1 : Int32))) (ls2 := [some (.ref 2759), some (.ref a1), some (.ref a2), some (.int x3), some (.int x4), some (.int x5), some (.int x6), some (.int (x7 + (1 : Int32))), some (.int x8), none, none, none, none, none]) dX10_sylvester_43 rfl rfl (by decide) rfl ?_
    refine r_goto (tgt := 9) dX10_sylvester_46 rfl ?_
    refine r_prune [true, true, true, true, true, true, true, true, false, false, false, false, false, false] (ls2 := [some (.ref 2759), some (.ref a1), some (.ref a2), some (.int x3), some (.int x4), some (.int x5), some (.int x6), some (.int (x7 + (1 : Int32))), none, none, none, none, none, none]) rfl ?_
    exact H
  · replace H := H.2 cH
    refine r_aload_n dX10_sylvester_26 rfl rfl ?_
    refine m_getF (x := 2859) hp fw_X10_483 dX10_sylvester_27 rfl ly_10 (ff_10_38 ly_10) ?_
    refine r_iload dX10_sylvester_30 rfl ?_
    have hir1 := H.1
    obtain ⟨r1, Lr1, er1, tr1, H⟩ := H.2
    refine m_aalM (x := r1) hp dX10_sylvester_32 (lf_10_38 ly_10) rfl rfl (lu_10_38 ly_10) hir1 er1 ?_
    refine r_iload dX10_sylvester_33 rfl ?_
    refine r_iconst (v := (0 : Int32)) dX10_sylvester_35 rfl ?_
    refine m_iast hp dX10_sylvester_36 tr1 H.1 (fun h2 eh2 => ?_)
    replace H := H.2 h2 eh2
    refine r_iinc (v := (x8 + (1 : Int32))) (ls2 := [some (.ref 2759), some (.ref a1), some (.ref a2), some (.int x3), some (.int x4), some (.int x5), some (.int x6), some (.int x7), some (.int (x8 + (1 : Int32))), none, none, none, none, none]) dX10_sylvester_37 rfl rfl (by decide) rfl ?_
    refine r_goto (tgt := 19) dX10_sylvester_40 rfl ?_
    exact H
theorem s_X10_sylvester_52 {g : GX} {d : Nat} {av : List Value} {Q : QT} {n : Nat} {h : Hp} {a1 : Nat} {a2 : Nat} {x3 : Int32} {x4 : Int32} {x5 : Int32} {x6 : Int32} {x7 : Int32} (hp : g.2.2.2.2 = true) (t1 : lay a1 = (0, 14, 2)) (t2 : lay a2 = (0, 14, 2)) (H : ((x3 < x7) → (W_X10_sylvester g d av Q n 114 [some (.ref 2759), none, some (.ref a2), some (.int x3), some (.int x4), some (.int x5), some (.int x6), some (.int (0 : Int32)), none, none, none, none, none, none] [] h)) ∧ ((¬ x3 < x7) → (vp_in (x3 - x7) 64 ∧ ∀ r1, r1 = (a1 + 2) + 2 * ((x3 - x7)).toNatClampNeg → (CallI g m_X10_eval d [.ref r1, .int x5] n h (fun v2 h2 => (W_X10_sylvester g d av Q n 77 [some (.ref 2759), some (.ref a1), some (.ref a2), some (.int x3), some (.int x4), some (.int x5), some (.int x6), some (.int x7), some (.int v2), some (.int (0 : Int32)), none, none, none, none] [] h2)))))) : W_X10_sylvester g d av Q n 52 [some (.ref 2759), some (.ref a1), some (.ref a2), some (.int x3), some (.int x4), some (.int x5), some (.int x6), some (.int x7), none, none, none, none, none, none] [] h := by
  refine r_iload dX10_sylvester_52 rfl ?_
  refine r_iload_n dX10_sylvester_54 rfl rfl ?_
  refine r_icmp_gt (tgt := 111) dX10_sylvester_55 rfl (fun cH => ?_) (fun cH => ?_)
  · replace H := H.1 cH
    refine r_iconst (v := (0 : Int32)) dX10_sylvester_111 rfl ?_
    refine r_istore (ls2 := [some (.ref 2759), some (.ref a1), some (.ref a2), some (.int x3), some (.int x4), some (.int x5), some (.int x6), some (.int (0 : Int32)), none, none, none, none, none, none]) dX10_sylvester_112 (by decide) rfl ?_
    refine r_prune [true, false, true, true, true, true, true, true, false, false, false, false, false, false] (ls2 := [some (.ref 2759), none, some (.ref a2), some (.int x3), some (.int x4), some (.int x5), some (.int x6), some (.int (0 : Int32)), none, none, none, none, none, none]) rfl ?_
    exact H
  · replace H := H.2 cH
    refine r_aload_n dX10_sylvester_58 rfl rfl ?_
    refine m_getF (x := (a1 + 1)) hp fw_X10_98 dX10_sylvester_59 rfl t1 (ff_14_0 t1) ?_
    refine r_iload_n dX10_sylvester_62 rfl rfl ?_
    refine r_iload dX10_sylvester_63 rfl ?_
    refine r_isub dX10_sylvester_65 ?_
    obtain ⟨r1, er1⟩ : ∃ y, y = (a1 + 2) + 2 * ((x3 - x7)).toNatClampNeg := ⟨_, rfl⟩
    have hir1 := H.1
    replace H := H.2 r1 er1
    have tLr1 := le_14 t1 hir1 er1
    refine m_aalF (x := r1) hp dX10_sylvester_66 (lf_14_0 t1) rfl rfl (lu_14_0 t1) hir1 (fe_14 t1 hir1 er1) ?_
    refine r_iload dX10_sylvester_67 rfl ?_
    refine k_SI (As := [.ref r1, .int x5]) (stk := []) cs_X10_136 dX10_sylvester_69 rfl (Nat.le_of_ble_eq_true rfl) (H.mono (fun v2 h2 H => ?_)) ⟨Nat.le_refl _, Nat.le_refl _⟩
    refine r_istore (ls2 := [some (.ref 2759), some (.ref a1), some (.ref a2), some (.int x3), some (.int x4), some (.int x5), some (.int x6), some (.int x7), some (.int v2), none, none, none, none, none]) dX10_sylvester_72 (by decide) rfl ?_
    refine r_iconst (v := (0 : Int32)) dX10_sylvester_74 rfl ?_
    refine r_istore (ls2 := [some (.ref 2759), some (.ref a1), some (.ref a2), some (.int x3), some (.int x4), some (.int x5), some (.int x6), some (.int x7), some (.int v2), some (.int (0 : Int32)), none, none, none, none]) dX10_sylvester_75 (by decide) rfl ?_
    exact H
theorem s_X10_sylvester_77 {g : GX} {d : Nat} {av : List Value} {Q : QT} {n : Nat} {h : Hp} {a1 : Nat} {a2 : Nat} {x3 : Int32} {x4 : Int32} {x5 : Int32} {x6 : Int32} {x7 : Int32} {x8 : Int32} {x9 : Int32} (hp : g.2.2.2.2 = true) (t1 : lay a1 = (0, 14, 2)) (t2 : lay a2 = (0, 14, 2)) (H : ((x4 ≤ x9) → (W_X10_sylvester g d av Q n 52 [some (.ref 2759), some (.ref a1), some (.ref a2), some (.int x3), some (.int x4), some (.int x5), some (.int x6), some (.int (x7 + (1 : Int32))), none, none, none, none, none, none] [] h)) ∧ ((¬ x4 ≤ x9) → (vp_in x9 48 ∧ ∃ r1 Lr1, rr h 2859 (x9).toNatClampNeg = some r1 ∧ lay r1 = (1, Lr1, 0) ∧ (vp_in (x9 + x7) Lr1 ∧ ∀ h2, h2 = wi h r1 ((x9 + x7)).toNatClampNeg x8 → (W_X10_sylvester g d av Q n 77 [some (.ref 2759), some (.ref a1), some (.ref a2), some (.int x3), some (.int x4), some (.int x5), some (.int x6), some (.int x7), some (.int x8), some (.int (x9 + (1 : Int32))), none, none, none, none] [] h2))))) : W_X10_sylvester g d av Q n 77 [some (.ref 2759), some (.ref a1), some (.ref a2), some (.int x3), some (.int x4), some (.int x5), some (.int x6), some (.int x7), some (.int x8), some (.int x9), none, none, none, none] [] h := by
  refine r_iload dX10_sylvester_77 rfl ?_
  refine r_iload dX10_sylvester_79 rfl ?_
  refine r_icmp_ge (tgt := 105) dX10_sylvester_81 rfl (fun cH => ?_) (fun cH => ?_)
  · replace H := H.1 cH
    refine r_iinc (v := (x7 + (1 : Int32))) (ls2 := [some (.ref 2759), some (.ref a1), some (.ref a2), some (.int x3), some (.int x4), some (.int x5), some (.int x6), some (.int (x7 + (1 : Int32))), some (.int x8), some (.int x9), none, none, none, none]) dX10_sylvester_105 rfl rfl (by decide) rfl ?_
    refine r_goto (tgt := 52) dX10_sylvester_108 rfl ?_
    refine r_prune [true, true, true, true, true, true, true, true, false, false, false, false, false, false] (ls2 := [some (.ref 2759), some (.ref a1), some (.ref a2), some (.int x3), some (.int x4), some (.int x5), some (.int x6), some (.int (x7 + (1 : Int32))), none, none, none, none, none, none]) rfl ?_
    exact H
  · replace H := H.2 cH
    refine r_aload_n dX10_sylvester_84 rfl rfl ?_
    refine m_getF (x := 2859) hp fw_X10_483 dX10_sylvester_85 rfl ly_10 (ff_10_38 ly_10) ?_
    refine r_iload dX10_sylvester_88 rfl ?_
    have hir1 := H.1
    obtain ⟨r1, Lr1, er1, tr1, H⟩ := H.2
    refine m_aalM (x := r1) hp dX10_sylvester_90 (lf_10_38 ly_10) rfl rfl (lu_10_38 ly_10) hir1 er1 ?_
    refine r_iload dX10_sylvester_91 rfl ?_
    refine r_iload dX10_sylvester_93 rfl ?_
    refine r_iadd dX10_sylvester_95 ?_
    refine r_iload dX10_sylvester_96 rfl ?_
    refine m_iast hp dX10_sylvester_98 tr1 H.1 (fun h2 eh2 => ?_)
    replace H := H.2 h2 eh2
    refine r_iinc (v := (x9 + (1 : Int32))) (ls2 := [some (.ref 2759), some (.ref a1), some (.ref a2), some (.int x3), some (.int x4), some (.int x5), some (.int x6), some (.int x7), some (.int x8), some (.int (x9 + (1 : Int32))), none, none, none, none]) dX10_sylvester_99 rfl rfl (by decide) rfl ?_
    refine r_goto (tgt := 77) dX10_sylvester_102 rfl ?_
    exact H
theorem s_X10_sylvester_114 {g : GX} {d : Nat} {av : List Value} {Q : QT} {n : Nat} {h : Hp} {a2 : Nat} {x3 : Int32} {x4 : Int32} {x5 : Int32} {x6 : Int32} {x7 : Int32} (hp : g.2.2.2.2 = true) (t2 : lay a2 = (0, 14, 2)) (H : ((x4 < x7) → (W_X10_sylvester g d av Q n 183 [some (.ref 2759), none, none, none, none, none, some (.int x6), some (.int (1 : Int32)), some (.int (0 : Int32)), none, none, none, none, none] [] h)) ∧ ((¬ x4 < x7) → (vp_in (x4 - x7) 64 ∧ ∀ r1, r1 = (a2 + 2) + 2 * ((x4 - x7)).toNatClampNeg → (CallI g m_X10_eval d [.ref r1, .int x5] n h (fun v2 h2 => (W_X10_sylvester g d av Q n 141 [some (.ref 2759), none, some (.ref a2), some (.int x3), some (.int x4), some (.int x5), some (.int x6), some (.int x7), some (.int v2), some (.int (0 : Int32)), none, none, none, none] [] h2)))))) : W_X10_sylvester g d av Q n 114 [some (.ref 2759), none, some (.ref a2), some (.int x3), some (.int x4), some (.int x5), some (.int x6), some (.int x7), none, none, none, none, none, none] [] h := by
  refine r_iload dX10_sylvester_114 rfl ?_
  refine r_iload dX10_sylvester_116 rfl ?_
  refine r_icmp_gt (tgt := 177) dX10_sylvester_118 rfl (fun cH => ?_) (fun cH => ?_)
  · replace H := H.1 cH
    refine r_iconst (v := (1 : Int32)) dX10_sylvester_177 rfl ?_
    refine r_istore (ls2 := [some (.ref 2759), none, some (.ref a2), some (.int x3), some (.int x4), some (.int x5), some (.int x6), some (.int (1 : Int32)), none, none, none, none, none, none]) dX10_sylvester_178 (by decide) rfl ?_
    refine r_iconst (v := (0 : Int32)) dX10_sylvester_180 rfl ?_
    refine r_istore (ls2 := [some (.ref 2759), none, some (.ref a2), some (.int x3), some (.int x4), some (.int x5), some (.int x6), some (.int (1 : Int32)), some (.int (0 : Int32)), none, none, none, none, none]) dX10_sylvester_181 (by decide) rfl ?_
    refine r_prune [true, false, false, false, false, false, true, true, true, false, false, false, false, false] (ls2 := [some (.ref 2759), none, none, none, none, none, some (.int x6), some (.int (1 : Int32)), some (.int (0 : Int32)), none, none, none, none, none]) rfl ?_
    exact H
  · replace H := H.2 cH
    refine r_aload_n dX10_sylvester_121 rfl rfl ?_
    refine m_getF (x := (a2 + 1)) hp fw_X10_98 dX10_sylvester_122 rfl t2 (ff_14_0 t2) ?_
    refine r_iload dX10_sylvester_125 rfl ?_
    refine r_iload dX10_sylvester_127 rfl ?_
    refine r_isub dX10_sylvester_129 ?_
    obtain ⟨r1, er1⟩ : ∃ y, y = (a2 + 2) + 2 * ((x4 - x7)).toNatClampNeg := ⟨_, rfl⟩
    have hir1 := H.1
    replace H := H.2 r1 er1
    have tLr1 := le_14 t2 hir1 er1
    refine m_aalF (x := r1) hp dX10_sylvester_130 (lf_14_0 t2) rfl rfl (lu_14_0 t2) hir1 (fe_14 t2 hir1 er1) ?_
    refine r_iload dX10_sylvester_131 rfl ?_
    refine k_SI (As := [.ref r1, .int x5]) (stk := []) cs_X10_136 dX10_sylvester_133 rfl (Nat.le_of_ble_eq_true rfl) (H.mono (fun v2 h2 H => ?_)) ⟨Nat.le_refl _, Nat.le_refl _⟩
    refine r_istore (ls2 := [some (.ref 2759), none, some (.ref a2), some (.int x3), some (.int x4), some (.int x5), some (.int x6), some (.int x7), some (.int v2), none, none, none, none, none]) dX10_sylvester_136 (by decide) rfl ?_
    refine r_iconst (v := (0 : Int32)) dX10_sylvester_138 rfl ?_
    refine r_istore (ls2 := [some (.ref 2759), none, some (.ref a2), some (.int x3), some (.int x4), some (.int x5), some (.int x6), some (.int x7), some (.int v2), some (.int (0 : Int32)), none, none, none, none]) dX10_sylvester_139 (by decide) rfl ?_
    exact H
theorem s_X10_sylvester_141 {g : GX} {d : Nat} {av : List Value} {Q : QT} {n : Nat} {h : Hp} {a2 : Nat} {x3 : Int32} {x4 : Int32} {x5 : Int32} {x6 : Int32} {x7 : Int32} {x8 : Int32} {x9 : Int32} (hp : g.2.2.2.2 = true) (t2 : lay a2 = (0, 14, 2)) (H : ((x3 ≤ x9) → (W_X10_sylvester g d av Q n 114 [some (.ref 2759), none, some (.ref a2), some (.int x3), some (.int x4), some (.int x5), some (.int x6), some (.int (x7 + (1 : Int32))), none, none, none, none, none, none] [] h)) ∧ ((¬ x3 ≤ x9) → (vp_in (x4 + x9) 48 ∧ ∃ r1 Lr1, rr h 2859 ((x4 + x9)).toNatClampNeg = some r1 ∧ lay r1 = (1, Lr1, 0) ∧ (vp_in (x9 + x7) Lr1 ∧ ∀ h2, h2 = wi h r1 ((x9 + x7)).toNatClampNeg x8 → (W_X10_sylvester g d av Q n 141 [some (.ref 2759), none, some (.ref a2), some (.int x3), some (.int x4), some (.int x5), some (.int x6), some (.int x7), some (.int x8), some (.int (x9 + (1 : Int32))), none, none, none, none] [] h2))))) : W_X10_sylvester g d av Q n 141 [some (.ref 2759), none, some (.ref a2), some (.int x3), some (.int x4), some (.int x5), some (.int x6), some (.int x7), some (.int x8), some (.int x9), none, none, none, none] [] h := by
  refine r_iload dX10_sylvester_141 rfl ?_
  refine r_iload_n dX10_sylvester_143 rfl rfl ?_
  refine r_icmp_ge (tgt := 171) dX10_sylvester_144 rfl (fun cH => ?_) (fun cH => ?_)
  · replace H := H.1 cH
    refine r_iinc (v := (x7 + (1 : Int32))) (ls2 := [some (.ref 2759), none, some (.ref a2), some (.int x3), some (.int x4), some (.int x5), some (.int x6), some (.int (x7 + (1 : Int32))), some (.int x8), some (.int x9), none, none, none, none]) dX10_sylvester_171 rfl rfl (by decide) rfl ?_
    refine r_goto (tgt := 114) dX10_sylvester_174 rfl ?_
    refine r_prune [true, false, true, true, true, true, true, true, false, false, false, false, false, false] (ls2 := [some (.ref 2759), none, some (.ref a2), some (.int x3), some (.int x4), some (.int x5), some (.int x6), some (.int (x7 + (1 : Int32))), none, none, none, none, none, none]) rfl ?_
    exact H
  · replace H := H.2 cH
    refine r_aload_n dX10_sylvester_147 rfl rfl ?_
    refine m_getF (x := 2859) hp fw_X10_483 dX10_sylvester_148 rfl ly_10 (ff_10_38 ly_10) ?_
    refine r_iload dX10_sylvester_151 rfl ?_
    refine r_iload dX10_sylvester_153 rfl ?_
    refine r_iadd dX10_sylvester_155 ?_
    have hir1 := H.1
    obtain ⟨r1, Lr1, er1, tr1, H⟩ := H.2
    refine m_aalM (x := r1) hp dX10_sylvester_156 (lf_10_38 ly_10) rfl rfl (lu_10_38 ly_10) hir1 er1 ?_
    refine r_iload dX10_sylvester_157 rfl ?_
    refine r_iload dX10_sylvester_159 rfl ?_
    refine r_iadd dX10_sylvester_161 ?_
    refine r_iload dX10_sylvester_162 rfl ?_
    refine m_iast hp dX10_sylvester_164 tr1 H.1 (fun h2 eh2 => ?_)
    replace H := H.2 h2 eh2
    refine r_iinc (v := (x9 + (1 : Int32))) (ls2 := [some (.ref 2759), none, some (.ref a2), some (.int x3), some (.int x4), some (.int x5), some (.int x6), some (.int x7), some (.int x8), some (.int (x9 + (1 : Int32))), none, none, none, none]) dX10_sylvester_165 rfl rfl (by decide) rfl ?_
    refine r_goto (tgt := 141) dX10_sylvester_168 rfl ?_
    exact H
theorem s_X10_sylvester_183 {g : GX} {d : Nat} {av : List Value} {Q : QT} {n : Nat} {h : Hp} {x6 : Int32} {x7 : Int32} {x8 : Int32} (hp : g.2.2.2.2 = true)  (H : ((x6 ≤ x8) → (Q (some (.int x7)) n h)) ∧ ((¬ x6 ≤ x8) → (W_X10_sylvester g d av Q n 194 [some (.ref 2759), none, none, none, none, none, some (.int x6), some (.int x7), some (.int x8), some (.int x8), none, none, none, none] [] h))) : W_X10_sylvester g d av Q n 183 [some (.ref 2759), none, none, none, none, none, some (.int x6), some (.int x7), some (.int x8), none, none, none, none, none] [] h := by
  refine r_iload dX10_sylvester_183 rfl ?_
  refine r_iload dX10_sylvester_185 rfl ?_
  refine r_icmp_ge (tgt := 410) dX10_sylvester_187 rfl (fun cH => ?_) (fun cH => ?_)
  · replace H := H.1 cH
    refine r_iload dX10_sylvester_410 rfl ?_
    exact r_zret dX10_sylvester_412 rfl rfl (Nat.le_refl _) (Nat.le_refl _) H
  · replace H := H.2 cH
    refine r_iload dX10_sylvester_190 rfl ?_
    refine r_istore (ls2 := [some (.ref 2759), none, none, none, none, none, some (.int x6), some (.int x7), some (.int x8), some (.int x8), none, none, none, none]) dX10_sylvester_192 (by decide) rfl ?_
    exact H
theorem s_X10_sylvester_194 {g : GX} {d : Nat} {av : List Value} {Q : QT} {n : Nat} {h : Hp} {x6 : Int32} {x7 : Int32} {x8 : Int32} {x9 : Int32} (hp : g.2.2.2.2 = true)  (H : ((x6 ≤ x9) → (W_X10_sylvester g d av Q n 220 [some (.ref 2759), none, none, none, none, none, some (.int x6), some (.int x7), some (.int x8), some (.int x9), none, none, none, none] [] h)) ∧ ((¬ x6 ≤ x9) → (vp_in x9 48 ∧ ∃ r1 Lr1, rr h 2859 (x9).toNatClampNeg = some r1 ∧ lay r1 = (1, Lr1, 0) ∧ (vp_in x8 Lr1 ∧ (((¬ (ri h r1 (x8).toNatClampNeg) = (0 : Int32)) → (W_X10_sylvester g d av Q n 220 [some (.ref 2759), none, none, none, none, none, some (.int x6), some (.int x7), some (.int x8), some (.int x9), none, none, none, none] [] h)) ∧ (((ri h r1 (x8).toNatClampNeg) = (0 : Int32)) → (W_X10_sylvester g d av Q n 194 [some (.ref 2759), none, none, none, none, none, some (.int x6), some (.int x7), some (.int x8), some (.int (x9 + (1 : Int32))), none, none, none, none] [] h))))))) : W_X10_sylvester g d av Q n 194 [some (.ref 2759), none, none, none, none, none, some (.int x6), some (.int x7), some (.int x8), some (.int x9), none, none, none, none] [] h := by
  refine r_iload dX10_sylvester_194 rfl ?_
  refine r_iload dX10_sylvester_196 rfl ?_
  refine r_icmp_ge (tgt := 220) dX10_sylvester_198 rfl (fun cH => ?_) (fun cH => ?_)
  · replace H := H.1 cH
    exact H
  · replace H := H.2 cH
    refine r_aload_n dX10_sylvester_201 rfl rfl ?_
    refine m_getF (x := 2859) hp fw_X10_483 dX10_sylvester_202 rfl ly_10 (ff_10_38 ly_10) ?_
    refine r_iload dX10_sylvester_205 rfl ?_
    have hir1 := H.1
    obtain ⟨r1, Lr1, er1, tr1, H⟩ := H.2
    refine m_aalM (x := r1) hp dX10_sylvester_207 (lf_10_38 ly_10) rfl rfl (lu_10_38 ly_10) hir1 er1 ?_
    refine r_iload dX10_sylvester_208 rfl ?_
    refine m_iald hp dX10_sylvester_210 tr1 H.1 ?_
    replace H := H.2
    refine r_if_ne (tgt := 220) dX10_sylvester_211 rfl (fun cH => ?_) (fun cH => ?_)
    · replace H := H.1 cH
      exact H
    · replace H := H.2 cH
      refine r_iinc (v := (x9 + (1 : Int32))) (ls2 := [some (.ref 2759), none, none, none, none, none, some (.int x6), some (.int x7), some (.int x8), some (.int (x9 + (1 : Int32))), none, none, none, none]) dX10_sylvester_214 rfl rfl (by decide) rfl ?_
      refine r_goto (tgt := 194) dX10_sylvester_217 rfl ?_
      exact H
theorem s_X10_sylvester_220 {g : GX} {d : Nat} {av : List Value} {Q : QT} {n : Nat} {h : Hp} {x6 : Int32} {x7 : Int32} {x8 : Int32} {x9 : Int32} (hp : g.2.2.2.2 = true)  (H : ((¬ x9 = x6) → (((x9 = x8) → (W_X10_sylvester g d av Q n 276 [some (.ref 2759), none, none, none, none, none, some (.int x6), some (.int x7), some (.int x8), none, none, none, none, none] [] h)) ∧ ((¬ x9 = x8) → (vp_in x9 48 ∧ ∃ r1 Lr1, rr h 2859 (x9).toNatClampNeg = some r1 ∧ lay r1 = (1, Lr1, 0) ∧ (vp_in x8 48 ∧ ∃ r2 Lr2, rr h 2859 (x8).toNatClampNeg = some r2 ∧ lay r2 = (1, Lr2, 0) ∧ (vp_in x9 48 ∧ fin 2859 (x9).toNatClampNeg = none ∧ ∀ h3, h3 = wr h 2859 (x9).toNatClampNeg (some r2) → (vp_in x8 48 ∧ fin 2859 (x8).toNatClampNeg = none ∧ ∀ h4, h4 = wr h3 2859 (x8).toNatClampNeg (some r1) → (CallI g m_X10_sub d [.int (0 : Int32), .int x7] n h4 (fun v5 h5 => (W_X10_sylvester g d av Q n 276 [some (.ref 2759), none, none, none, none, none, some (.int x6), some (.int v5), some (.int x8), none, none, none, none, none] [] h5)))))))))) ∧ ((x9 = x6) → (Q (some (.int (0 : Int32))) n h))) : W_X10_sylvester g d av Q n 220 [some (.ref 2759), none, none, none, none, none, some (.int x6), some (.int x7), some (.int x8), some (.int x9), none, none, none, none] [] h := by
  refine r_iload dX10_sylvester_220 rfl ?_
  refine r_iload dX10_sylvester_222 rfl ?_
  refine r_icmp_ne (tgt := 229) dX10_sylvester_224 rfl (fun cH => ?_) (fun cH => ?_)
  · replace H := H.1 cH
    refine r_iload dX10_sylvester_229 rfl ?_
    refine r_iload dX10_sylvester_231 rfl ?_
    refine r_icmp_eq (tgt := 276) dX10_sylvester_233 rfl (fun cH => ?_) (fun cH => ?_)
    · replace H := H.1 cH
      refine r_prune [true, false, false, false, false, false, true, true, true, false, false, false, false, false] (ls2 := [some (.ref 2759), none, none, none, none, none, some (.int x6), some (.int x7), some (.int x8), none, none, none, none, none]) rfl ?_
      exact H
    · replace H := H.2 cH
      refine r_aload_n dX10_sylvester_236 rfl rfl ?_
      refine m_getF (x := 2859) hp fw_X10_483 dX10_sylvester_237 rfl ly_10 (ff_10_38 ly_10) ?_
      refine r_iload dX10_sylvester_240 rfl ?_
      have hir1 := H.1
      obtain ⟨r1, Lr1, er1, tr1, H⟩ := H.2
      refine m_aalM (x := r1) hp dX10_sylvester_242 (lf_10_38 ly_10) rfl rfl (lu_10_38 ly_10) hir1 er1 ?_
      refine r_astore (ls2 := [some (.ref 2759), none, none, none, none, none, some (.int x6), some (.int x7), some (.int x8), some (.int x9), some (.ref r1), none, none, none]) dX10_sylvester_243 (by decide) rfl ?_
      refine r_aload_n dX10_sylvester_245 rfl rfl ?_
      refine m_getF (x := 2859) hp fw_X10_483 dX10_sylvester_246 rfl ly_10 (ff_10_38 ly_10) ?_
      refine r_iload dX10_sylvester_249 rfl ?_
      refine r_aload_n dX10_sylvester_251 rfl rfl ?_
      refine m_getF (x := 2859) hp fw_X10_483 dX10_sylvester_252 rfl ly_10 (ff_10_38 ly_10) ?_
      refine r_iload dX10_sylvester_255 rfl ?_
      have hir2 := H.1
      obtain ⟨r2, Lr2, er2, tr2, H⟩ := H.2
      refine m_aalM (x := r2) hp dX10_sylvester_257 (lf_10_38 ly_10) rfl rfl (lu_10_38 ly_10) hir2 er2 ?_
      refine m_aastR hp dX10_sylvester_258 (lf_10_38 ly_10) rfl rfl (Or.inl rfl) ao_int tr2 (lu_10_38 ly_10) (lay_ltA tr2) H.1 H.2.1 (fun h3 eh3 => ?_)
      replace H := H.2.2 h3 eh3
      refine r_aload_n dX10_sylvester_259 rfl rfl ?_
      refine m_getF (x := 2859) hp fw_X10_483 dX10_sylvester_260 rfl ly_10 (ff_10_38 ly_10) ?_
      refine r_iload dX10_sylvester_263 rfl ?_
      refine r_aload dX10_sylvester_265 rfl ?_
      refine m_aastR hp dX10_sylvester_267 (lf_10_38 ly_10) rfl rfl (Or.inl rfl) ao_int tr1 (lu_10_38 ly_10) (lay_ltA tr1) H.1 H.2.1 (fun h4 eh4 => ?_)
      replace H := H.2.2 h4 eh4
      refine r_iconst (v := (0 : Int32)) dX10_sylvester_268 rfl ?_
      refine r_iload dX10_sylvester_269 rfl ?_
      refine k_SI (As := [.int (0 : Int32), .int x7]) (stk := []) cs_X10_46 dX10_sylvester_271 rfl (Nat.le_of_ble_eq_true rfl) (H.mono (fun v5 h5 H => ?_)) ⟨Nat.le_refl _, Nat.le_refl _⟩
      refine r_istore (ls2 := [some (.ref 2759), none, none, none, none, none, some (.int x6), some (.int v5), some (.int x8), some (.int x9), some (.ref r1), none, none, none]) dX10_sylvester_274 (by decide) rfl ?_
      refine r_prune [true, false, false, false, false, false, true, true, true, false, false, false, false, false] (ls2 := [some (.ref 2759), none, none, none, none, none, some (.int x6), some (.int v5), some (.int x8), none, none, none, none, none]) rfl ?_
      exact H
  · replace H := H.2 cH
    refine r_iconst (v := (0 : Int32)) dX10_sylvester_227 rfl ?_
    exact r_zret dX10_sylvester_228 rfl rfl (Nat.le_refl _) (Nat.le_refl _) H
theorem s_X10_sylvester_276 {g : GX} {d : Nat} {av : List Value} {Q : QT} {n : Nat} {h : Hp} {x6 : Int32} {x7 : Int32} {x8 : Int32} (hp : g.2.2.2.2 = true)  (H : vp_in x8 48 ∧ ∃ r1 Lr1, rr h 2859 (x8).toNatClampNeg = some r1 ∧ lay r1 = (1, Lr1, 0) ∧ (vp_in x8 Lr1 ∧ (CallI g m_X10_mul d [.int x7, .int (ri h r1 (x8).toNatClampNeg)] n h (fun v2 h2 => (vp_in x8 48 ∧ ∃ r3 Lr3, rr h2 2859 (x8).toNatClampNeg = some r3 ∧ lay r3 = (1, Lr3, 0) ∧ (vp_in x8 Lr3 ∧ (CallI g m_X10_inv d [.int (ri h2 r3 (x8).toNatClampNeg)] n h2 (fun v4 h4 => (W_X10_sylvester g d av Q n 314 [some (.ref 2759), none, none, none, none, none, some (.int x6), some (.int v2), some (.int x8), none, some (.int v4), some (.int (x8 + (1 : Int32))), none, none] [] h4))))))))) : W_X10_sylvester g d av Q n 276 [some (.ref 2759), none, none, none, none, none, some (.int x6), some (.int x7), some (.int x8), none, none, none, none, none] [] h := by
  refine r_iload dX10_sylvester_276 rfl ?_
  refine r_aload_n dX10_sylvester_278 rfl rfl ?_
  refine m_getF (x := 2859) hp fw_X10_483 dX10_sylvester_279 rfl ly_10 (ff_10_38 ly_10) ?_
  refine r_iload dX10_sylvester_282 rfl ?_
  have hir1 := H.1
  obtain ⟨r1, Lr1, er1, tr1, H⟩ := H.2
  refine m_aalM (x := r1) hp dX10_sylvester_284 (lf_10_38 ly_10) rfl rfl (lu_10_38 ly_10) hir1 er1 ?_
  refine r_iload dX10_sylvester_285 rfl ?_
  refine m_iald hp dX10_sylvester_287 tr1 H.1 ?_
  replace H := H.2
  refine k_SI (As := [.int x7, .int (ri h r1 (x8).toNatClampNeg)]) (stk := []) cs_X10_56 dX10_sylvester_288 rfl (Nat.le_of_ble_eq_true rfl) (H.mono (fun v2 h2 H => ?_)) ⟨Nat.le_refl _, Nat.le_refl _⟩
  refine r_istore (ls2 := [some (.ref 2759), none, none, none, none, none, some (.int x6), some (.int v2), some (.int x8), none, none, none, none, none]) dX10_sylvester_291 (by decide) rfl ?_
  refine r_aload_n dX10_sylvester_293 rfl rfl ?_
  refine m_getF (x := 2859) hp fw_X10_483 dX10_sylvester_294 rfl ly_10 (ff_10_38 ly_10) ?_
  refine r_iload dX10_sylvester_297 rfl ?_
  have hir3 := H.1
  obtain ⟨r3, Lr3, er3, tr3, H⟩ := H.2
  refine m_aalM (x := r3) hp dX10_sylvester_299 (lf_10_38 ly_10) rfl rfl (lu_10_38 ly_10) hir3 er3 ?_
  refine r_iload dX10_sylvester_300 rfl ?_
  refine m_iald hp dX10_sylvester_302 tr3 H.1 ?_
  replace H := H.2
  refine k_SI (As := [.int (ri h2 r3 (x8).toNatClampNeg)]) (stk := []) cs_X10_13 dX10_sylvester_303 rfl (Nat.le_of_ble_eq_true rfl) (H.mono (fun v4 h4 H => ?_)) ⟨Nat.le_refl _, Nat.le_refl _⟩
  refine r_istore (ls2 := [some (.ref 2759), none, none, none, none, none, some (.int x6), some (.int v2), some (.int x8), none, some (.int v4), none, none, none]) dX10_sylvester_306 (by decide) rfl ?_
  refine r_iload dX10_sylvester_308 rfl ?_
  refine r_iconst (v := (1 : Int32)) dX10_sylvester_310 rfl ?_
  refine r_iadd dX10_sylvester_311 ?_
  refine r_istore (ls2 := [some (.ref 2759), none, none, none, none, none, some (.int x6), some (.int v2), some (.int x8), none, some (.int v4), some (.int (x8 + (1 : Int32))), none, none]) dX10_sylvester_312 (by decide) rfl ?_
  exact H
theorem s_X10_sylvester_314 {g : GX} {d : Nat} {av : List Value} {Q : QT} {n : Nat} {h : Hp} {x6 : Int32} {x7 : Int32} {x8 : Int32} {x10 : Int32} {x11 : Int32} (hp : g.2.2.2.2 = true)  (H : ((x6 ≤ x11) → (W_X10_sylvester g d av Q n 183 [some (.ref 2759), none, none, none, none, none, some (.int x6), some (.int x7), some (.int (x8 + (1 : Int32))), none, none, none, none, none] [] h)) ∧ ((¬ x6 ≤ x11) → (vp_in x11 48 ∧ ∃ r1 Lr1, rr h 2859 (x11).toNatClampNeg = some r1 ∧ lay r1 = (1, Lr1, 0) ∧ (vp_in x8 Lr1 ∧ (CallI g m_X10_mul d [.int (ri h r1 (x8).toNatClampNeg), .int x10] n h (fun v2 h2 => (W_X10_sylvester g d av Q n 342 [some (.ref 2759), none, none, none, none, none, some (.int x6), some (.int x7), some (.int x8), none, some (.int x10), some (.int x11), some (.int v2), some (.int x8)] [] h2))))))) : W_X10_sylvester g d av Q n 314 [some (.ref 2759), none, none, none, none, none, some (.int x6), some (.int x7), some (.int x8), none, some (.int x10), some (.int x11), none, none] [] h := by
  refine r_iload dX10_sylvester_314 rfl ?_
  refine r_iload dX10_sylvester_316 rfl ?_
  refine r_icmp_ge (tgt := 404) dX10_sylvester_318 rfl (fun cH => ?_) (fun cH => ?_)
  · replace H := H.1 cH
    refine r_iinc (v := (x8 + (1 : Int32))) (ls2 := [some (.ref 2759), none, none, none, none, none, some (.int x6), some (.int x7), some (.int (x8 + (1 : Int32))), none, some (.int x10), some (.int x11), none, none]) dX10_sylvester_404 rfl rfl (by decide) rfl ?_
    refine r_goto (tgt := 183) dX10_sylvester_407 rfl ?_
    refine r_prune [true, false, false, false, false, false, true, true, true, false, false, false, false, false] (ls2 := [some (.ref 2759), none, none, none, none, none, some (.int x6), some (.int x7), some (.int (x8 + (1 : Int32))), none, none, none, none, none]) rfl ?_
    exact H
  · replace H := H.2 cH
    refine r_aload_n dX10_sylvester_321 rfl rfl ?_
    refine m_getF (x := 2859) hp fw_X10_483 dX10_sylvester_322 rfl ly_10 (ff_10_38 ly_10) ?_
    refine r_iload dX10_sylvester_325 rfl ?_
    have hir1 := H.1
    obtain ⟨r1, Lr1, er1, tr1, H⟩ := H.2
    refine m_aalM (x := r1) hp dX10_sylvester_327 (lf_10_38 ly_10) rfl rfl (lu_10_38 ly_10) hir1 er1 ?_
    refine r_iload dX10_sylvester_328 rfl ?_
    refine m_iald hp dX10_sylvester_330 tr1 H.1 ?_
    replace H := H.2
    refine r_iload dX10_sylvester_331 rfl ?_
    refine k_SI (As := [.int (ri h r1 (x8).toNatClampNeg), .int x10]) (stk := []) cs_X10_56 dX10_sylvester_333 rfl (Nat.le_of_ble_eq_true rfl) (H.mono (fun v2 h2 H => ?_)) ⟨Nat.le_refl _, Nat.le_refl _⟩
    refine r_istore (ls2 := [some (.ref 2759), none, none, none, none, none, some (.int x6), some (.int x7), some (.int x8), none, some (.int x10), some (.int x11), some (.int v2), none]) dX10_sylvester_336 (by decide) rfl ?_
    refine r_iload dX10_sylvester_338 rfl ?_
    refine r_istore (ls2 := [some (.ref 2759), none, none, none, none, none, some (.int x6), some (.int x7), some (.int x8), none, some (.int x10), some (.int x11), some (.int v2), some (.int x8)]) dX10_sylvester_340 (by decide) rfl ?_
    exact H
theorem s_X10_sylvester_342 {g : GX} {d : Nat} {av : List Value} {Q : QT} {n : Nat} {h : Hp} {x6 : Int32} {x7 : Int32} {x8 : Int32} {x10 : Int32} {x11 : Int32} {x12 : Int32} {x13 : Int32} (hp : g.2.2.2.2 = true)  (H : ((x6 ≤ x13) → (W_X10_sylvester g d av Q n 398 [some (.ref 2759), none, none, none, none, none, some (.int x6), some (.int x7), some (.int x8), none, some (.int x10), some (.int x11), none, none] [] h)) ∧ ((¬ x6 ≤ x13) → (((x12 = (0 : Int32)) → (W_X10_sylvester g d av Q n 398 [some (.ref 2759), none, none, none, none, none, some (.int x6), some (.int x7), some (.int x8), none, some (.int x10), some (.int x11), none, none] [] h)) ∧ ((¬ x12 = (0 : Int32)) → (vp_in x11 48 ∧ ∃ r1 Lr1, rr h 2859 (x11).toNatClampNeg = some r1 ∧ lay r1 = (1, Lr1, 0) ∧ (vp_in x11 48 ∧ ∃ r2 Lr2, rr h 2859 (x11).toNatClampNeg = some r2 ∧ lay r2 = (1, Lr2, 0) ∧ (vp_in x13 Lr2 ∧ (vp_in x8 48 ∧ ∃ r3 Lr3, rr h 2859 (x8).toNatClampNeg = some r3 ∧ lay r3 = (1, Lr3, 0) ∧ (vp_in x13 Lr3 ∧ (CallI g m_X10_mul d [.int x12, .int (ri h r3 (x13).toNatClampNeg)] n h (fun v4 h4 => (CallI g m_X10_sub d [.int (ri h r2 (x13).toNatClampNeg), .int v4] n h4 (fun v5 h5 => (vp_in x13 Lr1 ∧ ∀ h6, h6 = wi h5 r1 (x13).toNatClampNeg v5 → (W_X10_sylvester g d av Q n 342 [some (.ref 2759), none, none, none, none, none, some (.int x6), some (.int x7), some (.int x8), none, some (.int x10), some (.int x11), some (.int x12), some (.int (x13 + (1 : Int32)))] [] h6))))))))))))))) : W_X10_sylvester g d av Q n 342 [some (.ref 2759), none, none, none, none, none, some (.int x6), some (.int x7), some (.int x8), none, some (.int x10), some (.int x11), some (.int x12), some (.int x13)] [] h := by
  refine r_iload dX10_sylvester_342 rfl ?_
  refine r_iload dX10_sylvester_344 rfl ?_
  refine r_icmp_ge (tgt := 398) dX10_sylvester_346 rfl (fun cH => ?_) (fun cH => ?_)
  · replace H := H.1 cH
    refine r_prune [true, false, false, false, false, false, true, true, true, false, true, true, false, false] (ls2 := [some (.ref 2759), none, none, none, none, none, some (.int x6), some (.int x7), some (.int x8), none, some (.int x10), some (.int x11), none, none]) rfl ?_
    exact H
  · replace H := H.2 cH
    refine r_iload dX10_sylvester_349 rfl ?_
    refine r_if_eq (tgt := 398) dX10_sylvester_351 rfl (fun cH => ?_) (fun cH => ?_)
    · replace H := H.1 cH
      refine r_prune [true, false, false, false, false, false, true, true, true, false, true, true, false, false] (ls2 := [some (.ref 2759), none, none, none, none, none, some (.int x6), some (.int x7), some (.int x8), none, some (.int x10), some (.int x11), none, none]) rfl ?_
      exact H
    · replace H := H.2 cH
      refine r_aload_n dX10_sylvester_354 rfl rfl ?_
      refine m_getF (x := 2859) hp fw_X10_483 dX10_sylvester_355 rfl ly_10 (ff_10_38 ly_10) ?_
      refine r_iload dX10_sylvester_358 rfl ?_
      have hir1 := H.1
      obtain ⟨r1, Lr1, er1, tr1, H⟩ := H.2
      refine m_aalM (x := r1) hp dX10_sylvester_360 (lf_10_38 ly_10) rfl rfl (lu_10_38 ly_10) hir1 er1 ?_
      refine r_iload dX10_sylvester_361 rfl ?_
      refine r_aload_n dX10_sylvester_363 rfl rfl ?_
      refine m_getF (x := 2859) hp fw_X10_483 dX10_sylvester_364 rfl ly_10 (ff_10_38 ly_10) ?_
      refine r_iload dX10_sylvester_367 rfl ?_
      have hir2 := H.1
      obtain ⟨r2, Lr2, er2, tr2, H⟩ := H.2
      refine m_aalM (x := r2) hp dX10_sylvester_369 (lf_10_38 ly_10) rfl rfl (lu_10_38 ly_10) hir2 er2 ?_
      refine r_iload dX10_sylvester_370 rfl ?_
      refine m_iald hp dX10_sylvester_372 tr2 H.1 ?_
      replace H := H.2
      refine r_iload dX10_sylvester_373 rfl ?_
      refine r_aload_n dX10_sylvester_375 rfl rfl ?_
      refine m_getF (x := 2859) hp fw_X10_483 dX10_sylvester_376 rfl ly_10 (ff_10_38 ly_10) ?_
      refine r_iload dX10_sylvester_379 rfl ?_
      have hir3 := H.1
      obtain ⟨r3, Lr3, er3, tr3, H⟩ := H.2
      refine m_aalM (x := r3) hp dX10_sylvester_381 (lf_10_38 ly_10) rfl rfl (lu_10_38 ly_10) hir3 er3 ?_
      refine r_iload dX10_sylvester_382 rfl ?_
      refine m_iald hp dX10_sylvester_384 tr3 H.1 ?_
      replace H := H.2
      refine k_SI (As := [.int x12, .int (ri h r3 (x13).toNatClampNeg)]) (stk := [.int (ri h r2 (x13).toNatClampNeg), .int x13, .ref r1]) cs_X10_56 dX10_sylvester_385 rfl (Nat.le_of_ble_eq_true rfl) (H.mono (fun v4 h4 H => ?_)) ⟨Nat.le_refl _, Nat.le_refl _⟩
      refine k_SI (As := [.int (ri h r2 (x13).toNatClampNeg), .int v4]) (stk := [.int x13, .ref r1]) cs_X10_46 dX10_sylvester_388 rfl (Nat.le_of_ble_eq_true rfl) (H.mono (fun v5 h5 H => ?_)) ⟨Nat.le_refl _, Nat.le_refl _⟩
      refine m_iast hp dX10_sylvester_391 tr1 H.1 (fun h6 eh6 => ?_)
      replace H := H.2 h6 eh6
      refine r_iinc (v := (x13 + (1 : Int32))) (ls2 := [some (.ref 2759), none, none, none, none, none, some (.int x6), some (.int x7), some (.int x8), none, some (.int x10), some (.int x11), some (.int x12), some (.int (x13 + (1 : Int32)))]) dX10_sylvester_392 rfl rfl (by decide) rfl ?_
      refine r_goto (tgt := 342) dX10_sylvester_395 rfl ?_
      exact H
theorem s_X10_sylvester_398 {g : GX} {d : Nat} {av : List Value} {Q : QT} {n : Nat} {h : Hp} {x6 : Int32} {x7 : Int32} {x8 : Int32} {x10 : Int32} {x11 : Int32} (hp : g.2.2.2.2 = true)  (H : W_X10_sylvester g d av Q n 314 [some (.ref 2759), none, none, none, none, none, some (.int x6), some (.int x7), some (.int x8), none, some (.int x10), some (.int (x11 + (1 : Int32))), none, none] [] h) : W_X10_sylvester g d av Q n 398 [some (.ref 2759), none, none, none, none, none, some (.int x6), some (.int x7), some (.int x8), none, some (.int x10), some (.int x11), none, none] [] h := by
  refine r_iinc (v := (x11 + (1 : Int32))) (ls2 := [some (.ref 2759), none, none, none, none, none, some (.int x6), some (.int x7), some (.int x8), none, some (.int x10), some (.int (x11 + (1 : Int32))), none, none]) dX10_sylvester_398 rfl rfl (by decide) rfl ?_
  refine r_goto (tgt := 314) dX10_sylvester_401 rfl ?_
  exact H
abbrev W_X10_clear (g : GX) (d : Nat) (av : List Value) (Q : QT) (n : Nat) (pc : Nat) (ls : LV) (stk : List Value) (h : Hp) : Prop := RJ g m_X10_clear (d + 1) 0 0 av Q pc ls stk n h 0 0
theorem s_X10_clear_0 {g : GX} {d : Nat} {av : List Value} {Q : QT} {n : Nat} {h : Hp} {x1 : Int32} (hp : g.2.2.2.2 = true)  (H : CallR g m_X10_newU d [.ref 2759] n h (fun v1 h1 => (lay v1 = (0, 13, 2) ∧ (CallR g m_X10_newU d [.ref 2759] n h1 (fun v2 h2 => (lay v2 = (0, 13, 2) ∧ (CallR g m_X10_newU d [.ref 2759] n h2 (fun v3 h3 => (lay v3 = (0, 13, 2) ∧ (CallR g m_X10_newU d [.ref 2759] n h3 (fun v4 h4 => (lay v4 = (0, 13, 2) ∧ (CallR g m_X10_newU d [.ref 2759] n h4 (fun v5 h5 => (lay v5 = (0, 13, 2) ∧ (CallV g m_X13_number d [.ref v1, .int (1 : Int32)] n h5 (fun h6 => (W_X10_clear g d av Q n 45 [some (.ref 2759), some (.int x1), some (.int (ri h 2759 1)), some (.ref v1), some (.ref v2), some (.ref v3), some (.ref v4), some (.ref v5), some (.int (0 : Int32)), some (.int (0 : Int32)), none, none, none, none] [] h6)))))))))))))))))) : W_X10_clear g d av Q n 0 [some (.ref 2759), some (.int x1), none, none, none, none, none, none, none, none, none, none, none, none] [] h := by
  refine r_aload_n dX10_clear_0 rfl rfl ?_
  refine m_getI hp fw_X10_21 dX10_clear_1 rfl ly_10 ?_
  refine r_istore_n (ls2 := [some (.ref 2759), some (.int x1), some (.int (ri h 2759 1)), none, none, none, none, none, none, none, none, none, none, none]) dX10_clear_4 rfl (by decide) rfl ?_
  refine r_aload_n dX10_clear_5 rfl rfl ?_
  refine k_VR (As := []) (stk := []) hp cv_X10_74 dX10_clear_6 rfl (Nat.le_of_ble_eq_true rfl) ly_10 (H.mono (fun v1 h1 H => ?_)) ⟨Nat.le_refl _, Nat.le_refl _⟩
  obtain ⟨tv1, H⟩ := H
  refine r_astore_n (ls2 := [some (.ref 2759), some (.int x1), some (.int (ri h 2759 1)), some (.ref v1), none, none, none, none, none, none, none, none, none, none]) dX10_clear_9 rfl (by decide) rfl ?_
  refine r_aload_n dX10_clear_10 rfl rfl ?_
  refine k_VR (As := []) (stk := []) hp cv_X10_74 dX10_clear_11 rfl (Nat.le_of_ble_eq_true rfl) ly_10 (H.mono (fun v2 h2 H => ?_)) ⟨Nat.le_refl _, Nat.le_refl _⟩
  obtain ⟨tv2, H⟩ := H
  refine r_astore (ls2 := [some (.ref 2759), some (.int x1), some (.int (ri h 2759 1)), some (.ref v1), some (.ref v2), none, none, none, none, none, none, none, none, none]) dX10_clear_14 (by decide) rfl ?_
  refine r_aload_n dX10_clear_16 rfl rfl ?_
  refine k_VR (As := []) (stk := []) hp cv_X10_74 dX10_clear_17 rfl (Nat.le_of_ble_eq_true rfl) ly_10 (H.mono (fun v3 h3 H => ?_)) ⟨Nat.le_refl _, Nat.le_refl _⟩
  obtain ⟨tv3, H⟩ := H
  refine r_astore (ls2 := [some (.ref 2759), some (.int x1), some (.int (ri h 2759 1)), some (.ref v1), some (.ref v2), some (.ref v3), none, none, none, none, none, none, none, none]) dX10_clear_20 (by decide) rfl ?_
  refine r_aload_n dX10_clear_22 rfl rfl ?_
  refine k_VR (As := []) (stk := []) hp cv_X10_74 dX10_clear_23 rfl (Nat.le_of_ble_eq_true rfl) ly_10 (H.mono (fun v4 h4 H => ?_)) ⟨Nat.le_refl _, Nat.le_refl _⟩
  obtain ⟨tv4, H⟩ := H
  refine r_astore (ls2 := [some (.ref 2759), some (.int x1), some (.int (ri h 2759 1)), some (.ref v1), some (.ref v2), some (.ref v3), some (.ref v4), none, none, none, none, none, none, none]) dX10_clear_26 (by decide) rfl ?_
  refine r_aload_n dX10_clear_28 rfl rfl ?_
  refine k_VR (As := []) (stk := []) hp cv_X10_74 dX10_clear_29 rfl (Nat.le_of_ble_eq_true rfl) ly_10 (H.mono (fun v5 h5 H => ?_)) ⟨Nat.le_refl _, Nat.le_refl _⟩
  obtain ⟨tv5, H⟩ := H
  refine r_astore (ls2 := [some (.ref 2759), some (.int x1), some (.int (ri h 2759 1)), some (.ref v1), some (.ref v2), some (.ref v3), some (.ref v4), some (.ref v5), none, none, none, none, none, none]) dX10_clear_32 (by decide) rfl ?_
  refine r_aload_n dX10_clear_34 rfl rfl ?_
  refine r_iconst (v := (1 : Int32)) dX10_clear_35 rfl ?_
  refine k_VV (As := [.int (1 : Int32)]) (stk := []) hp cv_X10_147 dX10_clear_36 rfl (Nat.le_of_ble_eq_true rfl) tv1 (H.mono (fun h6 H => ?_)) ⟨Nat.le_refl _, Nat.le_refl _⟩
  refine r_iconst (v := (0 : Int32)) dX10_clear_39 rfl ?_
  refine r_istore (ls2 := [some (.ref 2759), some (.int x1), some (.int (ri h 2759 1)), some (.ref v1), some (.ref v2), some (.ref v3), some (.ref v4), some (.ref v5), some (.int (0 : Int32)), none, none, none, none, none]) dX10_clear_40 (by decide) rfl ?_
  refine r_iconst (v := (0 : Int32)) dX10_clear_42 rfl ?_
  refine r_istore (ls2 := [some (.ref 2759), some (.int x1), some (.int (ri h 2759 1)), some (.ref v1), some (.ref v2), some (.ref v3), some (.ref v4), some (.ref v5), some (.int (0 : Int32)), some (.int (0 : Int32)), none, none, none, none]) dX10_clear_43 (by decide) rfl ?_
  exact H
theorem s_X10_clear_45 {g : GX} {d : Nat} {av : List Value} {Q : QT} {n : Nat} {h : Hp} {x1 : Int32} {x2 : Int32} {a3 : Nat} {a4 : Nat} {a5 : Nat} {a6 : Nat} {a7 : Nat} {x8 : Int32} {x9 : Int32} (hp : g.2.2.2.2 = true) (t3 : lay a3 = (0, 13, 2)) (t4 : lay a4 = (0, 13, 2)) (t5 : lay a5 = (0, 13, 2)) (t6 : lay a6 = (0, 13, 2)) (t7 : lay a7 = (0, 13, 2)) (H : ((x1 ≤ x9) → (∀ h1, h1 = wi h 2759 1 (x2 + (1 : Int32)) → (Q (some (.ref a3)) n h1))) ∧ ((¬ x1 ≤ x9) → (W_X10_clear g d av Q n 55 [some (.ref 2759), some (.int x1), some (.int x2), some (.ref a3), some (.ref a4), some (.ref a5), some (.ref a6), some (.ref a7), some (.int x8), some (.int x9), some (.int x8), none, none, none] [] h))) : W_X10_clear g d av Q n 45 [some (.ref 2759), some (.int x1), some (.int x2), some (.ref a3), some (.ref a4), some (.ref a5), some (.ref a6), some (.ref a7), some (.int x8), some (.int x9), none, none, none, none] [] h := by
  refine r_iload dX10_clear_45 rfl ?_
  refine r_iload_n dX10_clear_47 rfl rfl ?_
  refine r_icmp_ge (tgt := 353) dX10_clear_48 rfl (fun cH => ?_) (fun cH => ?_)
  · replace H := H.1 cH
    refine r_aload_n dX10_clear_353 rfl rfl ?_
    refine r_iload_n dX10_clear_354 rfl rfl ?_
    refine r_iconst (v := (1 : Int32)) dX10_clear_355 rfl ?_
    refine r_iadd dX10_clear_356 ?_
    refine m_putI hp fw_X10_21 dX10_clear_357 rfl rfl ly_10 (fun h1 eh1 => ?_)
    replace H := H h1 eh1
    refine r_aload_n dX10_clear_360 rfl rfl ?_
    exact r_aret dX10_clear_361 rfl (Or.inl ⟨_, rfl⟩) (Nat.le_refl _) (Nat.le_refl _) H
  · replace H := H.2 cH
    refine r_iload dX10_clear_51 rfl ?_
    refine r_istore (ls2 := [some (.ref 2759), some (.int x1), some (.int x2), some (.ref a3), some (.ref a4), some (.ref a5), some (.ref a6), some (.ref a7), some (.int x8), some (.int x9), some (.int x8), none, none, none]) dX10_clear_53 (by decide) rfl ?_
    exact H
theorem s_X10_clear_55 {g : GX} {d : Nat} {av : List Value} {Q : QT} {n : Nat} {h : Hp} {x1 : Int32} {x2 : Int32} {a3 : Nat} {a4 : Nat} {a5 : Nat} {a6 : Nat} {a7 : Nat} {x8 : Int32} {x9 : Int32} {x10 : Int32} (hp : g.2.2.2.2 = true) (t3 : lay a3 = (0, 13, 2)) (t4 : lay a4 = (0, 13, 2)) (t5 : lay a5 = (0, 13, 2)) (t6 : lay a6 = (0, 13, 2)) (t7 : lay a7 = (0, 13, 2)) (H : (((ri h 2759 48) ≤ x10) → (W_X10_clear g d av Q n 86 [some (.ref 2759), some (.int x1), some (.int x2), some (.ref a3), some (.ref a4), some (.ref a5), some (.ref a6), some (.ref a7), some (.int x8), some (.int x9), some (.int x10), none, none, none] [] h)) ∧ ((¬ (ri h 2759 48) ≤ x10) → (vp_in x10 26 ∧ ∃ r1 Lr1, rr h 2908 (x10).toNatClampNeg = some r1 ∧ (lay r1 = (2, Lr1, 10) ∧ r1 < N0) ∧ (vp_in x9 Lr1 ∧ ∃ r2, rr h r1 (x9).toNatClampNeg = some r2 ∧ lay r2 = (0, 13, 2) ∧ (((¬ (ri h r2 1) = (0 : Int32)) → (W_X10_clear g d av Q n 86 [some (.ref 2759), some (.int x1), some (.int x2), some (.ref a3), some (.ref a4), some (.ref a5), some (.ref a6), some (.ref a7), some (.int x8), some (.int x9), some (.int x10), none, none, none] [] h)) ∧ (((ri h r2 1) = (0 : Int32)) → (W_X10_clear g d av Q n 55 [some (.ref 2759), some (.int x1), some (.int x2), some (.ref a3), some (.ref a4), some (.ref a5), some (.ref a6), some (.ref a7), some (.int x8), some (.int x9), some (.int (x10 + (1 : Int32))), none, none, none] [] h))))))) : W_X10_clear g d av Q n 55 [some (.ref 2759), some (.int x1), some (.int x2), some (.ref a3), some (.ref a4), some (.ref a5), some (.ref a6), some (.ref a7), some (.int x8), some (.int x9), some (.int x10), none, none, none] [] h := by
  refine r_iload dX10_clear_55 rfl ?_
  refine r_aload_n dX10_clear_57 rfl rfl ?_
  refine m_getI hp fw_X10_721 dX10_clear_58 rfl ly_10 ?_
  refine r_icmp_ge (tgt := 86) dX10_clear_61 rfl (fun cH => ?_) (fun cH => ?_)
  · replace H := H.1 cH
    exact H
  · replace H := H.2 cH
    refine r_aload_n dX10_clear_64 rfl rfl ?_
    refine m_getF (x := 2908) hp fw_X10_487 dX10_clear_65 rfl ly_10 (ff_10_44 ly_10) ?_
    refine r_iload dX10_clear_68 rfl ?_
    have hir1 := H.1
    obtain ⟨r1, Lr1, er1, tr1, H⟩ := H.2
    refine m_aalM (x := r1) hp dX10_clear_70 (lf_10_44 ly_10) rfl rfl (lu_10_44 ly_10) hir1 er1 ?_
    refine r_iload dX10_clear_71 rfl ?_
    have hir2 := H.1
    obtain ⟨r2, er2, tr2, H⟩ := H.2
    refine m_aalM (x := r2) hp dX10_clear_73 tr1.1 rfl rfl tr1.2 hir2 er2 ?_
    refine m_getI hp fw_X10_25 dX10_clear_74 rfl tr2 ?_
    refine r_if_ne (tgt := 86) dX10_clear_77 rfl (fun cH => ?_) (fun cH => ?_)
    · replace H := H.1 cH
      exact H
    · replace H := H.2 cH
      refine r_iinc (v := (x10 + (1 : Int32))) (ls2 := [some (.ref 2759), some (.int x1), some (.int x2), some (.ref a3), some (.ref a4), some (.ref a5), some (.ref a6), some (.ref a7), some (.int x8), some (.int x9), some (.int (x10 + (1 : Int32))), none, none, none]) dX10_clear_80 rfl rfl (by decide) rfl ?_
      refine r_goto (tgt := 55) dX10_clear_83 rfl ?_
      exact H
theorem s_X10_clear_86 {g : GX} {d : Nat} {av : List Value} {Q : QT} {n : Nat} {h : Hp} {x1 : Int32} {x2 : Int32} {a3 : Nat} {a4 : Nat} {a5 : Nat} {a6 : Nat} {a7 : Nat} {x8 : Int32} {x9 : Int32} {x10 : Int32} (hp : g.2.2.2.2 = true) (t3 : lay a3 = (0, 13, 2)) (t4 : lay a4 = (0, 13, 2)) (t5 : lay a5 = (0, 13, 2)) (t6 : lay a6 = (0, 13, 2)) (t7 : lay a7 = (0, 13, 2)) (H : (((ri h 2759 48) ≤ x10) → (W_X10_clear g d av Q n 106 [some (.ref 2759), some (.int x1), some (.int x2), some (.ref a3), some (.ref a4), some (.ref a5), some (.ref a6), some (.ref a7), some (.int x8), some (.int x9), some (.int x10), none, none, none] [.int (0 : Int32), .int x9, .ref 2936] h)) ∧ ((¬ (ri h 2759 48) ≤ x10) → (W_X10_clear g d av Q n 106 [some (.ref 2759), some (.int x1), some (.int x2), some (.ref a3), some (.ref a4), some (.ref a5), some (.ref a6), some (.ref a7), some (.int x8), some (.int x9), some (.int x10), none, none, none] [.int (1 : Int32), .int x9, .ref 2936] h))) : W_X10_clear g d av Q n 86 [some (.ref 2759), some (.int x1), some (.int x2), some (.ref a3), some (.ref a4), some (.ref a5), some (.ref a6), some (.ref a7), some (.int x8), some (.int x9), some (.int x10), none, none, none] [] h := by
  refine r_aload_n dX10_clear_86 rfl rfl ?_
  refine m_getF (x := 2936) hp fw_X10_493 dX10_clear_87 rfl ly_10 (ff_10_46 ly_10) ?_
  refine r_iload dX10_clear_90 rfl ?_
  refine r_iload dX10_clear_92 rfl ?_
  refine r_aload_n dX10_clear_94 rfl rfl ?_
  refine m_getI hp fw_X10_721 dX10_clear_95 rfl ly_10 ?_
  refine r_icmp_ge (tgt := 105) dX10_clear_98 rfl (fun cH => ?_) (fun cH => ?_)
  · replace H := H.1 cH
    refine r_iconst (v := (0 : Int32)) dX10_clear_105 rfl ?_
    exact H
  · replace H := H.2 cH
    refine r_iconst (v := (1 : Int32)) dX10_clear_101 rfl ?_
    refine r_goto (tgt := 106) dX10_clear_102 rfl ?_
    exact H
theorem s_X10_clear_106 {g : GX} {d : Nat} {av : List Value} {Q : QT} {n : Nat} {h : Hp} {x1 : Int32} {x2 : Int32} {a3 : Nat} {a4 : Nat} {a5 : Nat} {a6 : Nat} {a7 : Nat} {x8 : Int32} {x9 : Int32} {x10 : Int32} {xs0 : Int32} {xs1 : Int32} {as2 : Nat} {Ls2 : Nat} (hp : g.2.2.2.2 = true) (t3 : lay a3 = (0, 13, 2)) (t4 : lay a4 = (0, 13, 2)) (t5 : lay a5 = (0, 13, 2)) (t6 : lay a6 = (0, 13, 2)) (t7 : lay a7 = (0, 13, 2)) (ts2 : lay as2 = (1, Ls2, 2)) (H : vp_in xs1 Ls2 ∧ (narrow .boolean (.int xs0) = .int xs0) ∧ ∀ h1, h1 = wi h as2 (xs1).toNatClampNeg xs0 → (vp_in x9 14 ∧ (((¬ (ri h1 2936 (x9).toNatClampNeg) = (0 : Int32)) → (vp_in x9 14 ∧ ∀ h2, h2 = wi h1 2937 (x9).toNatClampNeg x8 → (vp_in x10 26 ∧ ∃ r3 Lr3, rr h2 2908 (x10).toNatClampNeg = some r3 ∧ (lay r3 = (2, Lr3, 10) ∧ r3 < N0) ∧ (vp_in x8 26 ∧ ∃ r4 Lr4, rr h2 2908 (x8).toNatClampNeg = some r4 ∧ (lay r4 = (2, Lr4, 10) ∧ r4 < N0) ∧ (vp_in x10 26 ∧ fin 2908 (x10).toNatClampNeg = none ∧ ∀ h5, h5 = wr h2 2908 (x10).toNatClampNeg (some r4) → (vp_in x8 26 ∧ fin 2908 (x8).toNatClampNeg = none ∧ ∀ h6, h6 = wr h5 2908 (x8).toNatClampNeg (some r3) → (vp_in x8 26 ∧ ∃ r7 Lr7, rr h6 2908 (x8).toNatClampNeg = some r7 ∧ (lay r7 = (2, Lr7, 10) ∧ r7 < N0) ∧ (vp_in x9 Lr7 ∧ ∃ r8, rr h6 r7 (x9).toNatClampNeg = some r8 ∧ lay r8 = (0, 13, 2) ∧ (CallV g m_X10_set_2 d [.ref a7, .ref r8] n h6 (fun h9 => (W_X10_clear g d av Q n 179 [some (.ref 2759), some (.int x1), some (.int x2), some (.ref a3), some (.ref a4), some (.ref a5), some (.ref a6), some (.ref a7), some (.int x8), some (.int x9), none, none, some (.int (0 : Int32)), none] [] h9))))))))))) ∧ (((ri h1 2936 (x9).toNatClampNeg) = (0 : Int32)) → (W_X10_clear g d av Q n 347 [some (.ref 2759), some (.int x1), some (.int x2), some (.ref a3), some (.ref a4), some (.ref a5), some (.ref a6), some (.ref a7), some (.int x8), some (.int x9), none, none, none, none] [] h1))))) : W_X10_clear g d av Q n 106 [some (.ref 2759), some (.int x1), some (.int x2), some (.ref a3), some (.ref a4), some (.ref a5), some (.ref a6), some (.ref a7), some (.int x8), some (.int x9), some (.int x10), none, none, none] [.int xs0, .int xs1, .ref as2] h := by
  refine m_zast hp dX10_clear_106 ts2 H.1 H.2.1 (fun h1 eh1 => ?_)
  replace H := H.2.2 h1 eh1
  refine r_aload_n dX10_clear_107 rfl rfl ?_
  refine m_getF (x := 2936) hp fw_X10_493 dX10_clear_108 rfl ly_10 (ff_10_46 ly_10) ?_
  refine r_iload dX10_clear_111 rfl ?_
  refine m_zald hp dX10_clear_113 (lf_10_46 ly_10) H.1 ?_
  replace H := H.2
  refine r_if_ne (tgt := 120) dX10_clear_114 rfl (fun cH => ?_) (fun cH => ?_)
  · replace H := H.1 cH
    refine r_aload_n dX10_clear_120 rfl rfl ?_
    refine m_getF (x := 2937) hp fw_X10_496 dX10_clear_121 rfl ly_10 (ff_10_47 ly_10) ?_
    refine r_iload dX10_clear_124 rfl ?_
    refine r_iload dX10_clear_126 rfl ?_
    refine m_iast hp dX10_clear_128 (lf_10_47 ly_10) H.1 (fun h2 eh2 => ?_)
    replace H := H.2 h2 eh2
    refine r_aload_n dX10_clear_129 rfl rfl ?_
    refine m_getF (x := 2908) hp fw_X10_487 dX10_clear_130 rfl ly_10 (ff_10_44 ly_10) ?_
    refine r_iload dX10_clear_133 rfl ?_
    have hir3 := H.1
    obtain ⟨r3, Lr3, er3, tr3, H⟩ := H.2
    refine m_aalM (x := r3) hp dX10_clear_135 (lf_10_44 ly_10) rfl rfl (lu_10_44 ly_10) hir3 er3 ?_
    refine r_astore (ls2 := [some (.ref 2759), some (.int x1), some (.int x2), some (.ref a3), some (.ref a4), some (.ref a5), some (.ref a6), some (.ref a7), some (.int x8), some (.int x9), some (.int x10), some (.ref r3), none, none]) dX10_clear_136 (by decide) rfl ?_
    refine r_aload_n dX10_clear_138 rfl rfl ?_
    refine m_getF (x := 2908) hp fw_X10_487 dX10_clear_139 rfl ly_10 (ff_10_44 ly_10) ?_
    refine r_iload dX10_clear_142 rfl ?_
    refine r_aload_n dX10_clear_144 rfl rfl ?_
    refine m_getF (x := 2908) hp fw_X10_487 dX10_clear_145 rfl ly_10 (ff_10_44 ly_10) ?_
    refine r_iload dX10_clear_148 rfl ?_
    have hir4 := H.1
    obtain ⟨r4, Lr4, er4, tr4, H⟩ := H.2
    refine m_aalM (x := r4) hp dX10_clear_150 (lf_10_44 ly_10) rfl rfl (lu_10_44 ly_10) hir4 er4 ?_
    refine m_aastR hp dX10_clear_151 (lf_10_44 ly_10) rfl rfl (Or.inr rfl) ao_U tr4.1 (lu_10_44 ly_10) tr4.2 H.1 H.2.1 (fun h5 eh5 => ?_)
    replace H := H.2.2 h5 eh5
    refine r_aload_n dX10_clear_152 rfl rfl ?_
    refine m_getF (x := 2908) hp fw_X10_487 dX10_clear_153 rfl ly_10 (ff_10_44 ly_10) ?_
    refine r_iload dX10_clear_156 rfl ?_
    refine r_aload dX10_clear_158 rfl ?_
    refine m_aastR hp dX10_clear_160 (lf_10_44 ly_10) rfl rfl (Or.inr rfl) ao_U tr3.1 (lu_10_44 ly_10) tr3.2 H.1 H.2.1 (fun h6 eh6 => ?_)
    replace H := H.2.2 h6 eh6
    refine r_aload dX10_clear_161 rfl ?_
    refine r_aload_n dX10_clear_163 rfl rfl ?_
    refine m_getF (x := 2908) hp fw_X10_487 dX10_clear_164 rfl ly_10 (ff_10_44 ly_10) ?_
    refine r_iload dX10_clear_167 rfl ?_
    have hir7 := H.1
    obtain ⟨r7, Lr7, er7, tr7, H⟩ := H.2
    refine m_aalM (x := r7) hp dX10_clear_169 (lf_10_44 ly_10) rfl rfl (lu_10_44 ly_10) hir7 er7 ?_
    refine r_iload dX10_clear_170 rfl ?_
    have hir8 := H.1
    obtain ⟨r8, er8, tr8, H⟩ := H.2
    refine m_aalM (x := r8) hp dX10_clear_172 tr7.1 rfl rfl tr7.2 hir8 er8 ?_
    refine k_SV (As := [.ref a7, .ref r8]) (stk := []) cs_X10_62 dX10_clear_173 rfl (Nat.le_of_ble_eq_true rfl) (H.mono (fun h9 H => ?_)) ⟨Nat.le_refl _, Nat.le_refl _⟩
    refine r_iconst (v := (0 : Int32)) dX10_clear_176 rfl ?_
    refine r_istore (ls2 := [some (.ref 2759), some (.int x1), some (.int x2), some (.ref a3), some (.ref a4), some (.ref a5), some (.ref a6), some (.ref a7), some (.int x8), some (.int x9), some (.int x10), some (.ref r3), some (.int (0 : Int32)), none]) dX10_clear_177 (by decide) rfl ?_
    refine r_prune [true, true, true, true, true, true, true, true, true, true, false, false, true, false] (ls2 := [some (.ref 2759), some (.int x1), some (.int x2), some (.ref a3), some (.ref a4), some (.ref a5), some (.ref a6), some (.ref a7), some (.int x8), some (.int x9), none, none, some (.int (0 : Int32)), none]) rfl ?_
    exact H
  · replace H := H.2 cH
    refine r_goto (tgt := 347) dX10_clear_117 rfl ?_
    refine r_prune [true, true, true, true, true, true, true, true, true, true, false, false, false, false] (ls2 := [some (.ref 2759), some (.int x1), some (.int x2), some (.ref a3), some (.ref a4), some (.ref a5), some (.ref a6), some (.ref a7), some (.int x8), some (.int x9), none, none, none, none]) rfl ?_
    exact H
theorem s_X10_clear_179 {g : GX} {d : Nat} {av : List Value} {Q : QT} {n : Nat} {h : Hp} {x1 : Int32} {x2 : Int32} {a3 : Nat} {a4 : Nat} {a5 : Nat} {a6 : Nat} {a7 : Nat} {x8 : Int32} {x9 : Int32} {x12 : Int32} (hp : g.2.2.2.2 = true) (t3 : lay a3 = (0, 13, 2)) (t4 : lay a4 = (0, 13, 2)) (t5 : lay a5 = (0, 13, 2)) (t6 : lay a6 = (0, 13, 2)) (t7 : lay a7 = (0, 13, 2)) (H : (((ri h 2759 48) ≤ x12) → (CallV g m_X10_set_2 d [.ref a3, .ref a7] n h (fun h1 => (W_X10_clear g d av Q n 347 [some (.ref 2759), some (.int x1), some (.int x2), some (.ref a3), some (.ref a4), some (.ref a5), some (.ref a6), some (.ref a7), some (.int (x8 + (1 : Int32))), some (.int x9), none, none, none, none] [] h1)))) ∧ ((¬ (ri h 2759 48) ≤ x12) → (((¬ x12 = x8) → (vp_in x12 26 ∧ ∃ r2 Lr2, rr h 2908 (x12).toNatClampNeg = some r2 ∧ (lay r2 = (2, Lr2, 10) ∧ r2 < N0) ∧ (vp_in x9 Lr2 ∧ ∃ r3, rr h r2 (x9).toNatClampNeg = some r3 ∧ lay r3 = (0, 13, 2) ∧ (CallV g m_X10_set_2 d [.ref a6, .ref r3] n h (fun h4 => (W_X10_clear g d av Q n 216 [some (.ref 2759), some (.int x1), some (.int x2), some (.ref a3), some (.ref a4), some (.ref a5), some (.ref a6), some (.ref a7), some (.int x8), some (.int x9), none, none, some (.int x12), some (.int (0 : Int32))] [] h4)))))) ∧ ((x12 = x8) → (W_X10_clear g d av Q n 332 [some (.ref 2759), some (.int x1), some (.int x2), some (.ref a3), some (.ref a4), some (.ref a5), some (.ref a6), some (.ref a7), some (.int x8), some (.int x9), none, none, some (.int x12), none] [] h))))) : W_X10_clear g d av Q n 179 [some (.ref 2759), some (.int x1), some (.int x2), some (.ref a3), some (.ref a4), some (.ref a5), some (.ref a6), some (.ref a7), some (.int x8), some (.int x9), none, none, some (.int x12), none] [] h := by
  refine r_iload dX10_clear_179 rfl ?_
  refine r_aload_n dX10_clear_181 rfl rfl ?_
  refine m_getI hp fw_X10_721 dX10_clear_182 rfl ly_10 ?_
  refine r_icmp_ge (tgt := 338) dX10_clear_185 rfl (fun cH => ?_) (fun cH => ?_)
  · replace H := H.1 cH
    refine r_aload_n dX10_clear_338 rfl rfl ?_
    refine r_aload dX10_clear_339 rfl ?_
    refine k_SV (As := [.ref a3, .ref a7]) (stk := []) cs_X10_62 dX10_clear_341 rfl (Nat.le_of_ble_eq_true rfl) (H.mono (fun h1 H => ?_)) ⟨Nat.le_refl _, Nat.le_refl _⟩
    refine r_iinc (v := (x8 + (1 : Int32))) (ls2 := [some (.ref 2759), some (.int x1), some (.int x2), some (.ref a3), some (.ref a4), some (.ref a5), some (.ref a6), some (.ref a7), some (.int (x8 + (1 : Int32))), some (.int x9), none, none, some (.int x12), none]) dX10_clear_344 rfl rfl (by decide) rfl ?_
    refine r_prune [true, true, true, true, true, true, true, true, true, true, false, false, false, false] (ls2 := [some (.ref 2759), some (.int x1), some (.int x2), some (.ref a3), some (.ref a4), some (.ref a5), some (.ref a6), some (.ref a7), some (.int (x8 + (1 : Int32))), some (.int x9), none, none, none, none]) rfl ?_
    exact H
  · replace H := H.2 cH
    refine r_iload dX10_clear_188 rfl ?_
    refine r_iload dX10_clear_190 rfl ?_
    refine r_icmp_ne (tgt := 198) dX10_clear_192 rfl (fun cH => ?_) (fun cH => ?_)
    · replace H := H.1 cH
      refine r_aload dX10_clear_198 rfl ?_
      refine r_aload_n dX10_clear_200 rfl rfl ?_
      refine m_getF (x := 2908) hp fw_X10_487 dX10_clear_201 rfl ly_10 (ff_10_44 ly_10) ?_
      refine r_iload dX10_clear_204 rfl ?_
      have hir2 := H.1
      obtain ⟨r2, Lr2, er2, tr2, H⟩ := H.2
      refine m_aalM (x := r2) hp dX10_clear_206 (lf_10_44 ly_10) rfl rfl (lu_10_44 ly_10) hir2 er2 ?_
      refine r_iload dX10_clear_207 rfl ?_
      have hir3 := H.1
      obtain ⟨r3, er3, tr3, H⟩ := H.2
      refine m_aalM (x := r3) hp dX10_clear_209 tr2.1 rfl rfl tr2.2 hir3 er3 ?_
      refine k_SV (As := [.ref a6, .ref r3]) (stk := []) cs_X10_62 dX10_clear_210 rfl (Nat.le_of_ble_eq_true rfl) (H.mono (fun h4 H => ?_)) ⟨Nat.le_refl _, Nat.le_refl _⟩
      refine r_iconst (v := (0 : Int32)) dX10_clear_213 rfl ?_
      refine r_istore (ls2 := [some (.ref 2759), some (.int x1), some (.int x2), some (.ref a3), some (.ref a4), some (.ref a5), some (.ref a6), some (.ref a7), some (.int x8), some (.int x9), none, none, some (.int x12), some (.int (0 : Int32))]) dX10_clear_214 (by decide) rfl ?_
      exact H
    · replace H := H.2 cH
      refine r_goto (tgt := 332) dX10_clear_195 rfl ?_
      exact H
theorem s_X10_clear_216 {g : GX} {d : Nat} {av : List Value} {Q : QT} {n : Nat} {h : Hp} {x1 : Int32} {x2 : Int32} {a3 : Nat} {a4 : Nat} {a5 : Nat} {a6 : Nat} {a7 : Nat} {x8 : Int32} {x9 : Int32} {x12 : Int32} {x13 : Int32} (hp : g.2.2.2.2 = true) (t3 : lay a3 = (0, 13, 2)) (t4 : lay a4 = (0, 13, 2)) (t5 : lay a5 = (0, 13, 2)) (t6 : lay a6 = (0, 13, 2)) (t7 : lay a7 = (0, 13, 2)) (H : ((x1 ≤ x13) → (W_X10_clear g d av Q n 332 [some (.ref 2759), some (.int x1), some (.int x2), some (.ref a3), some (.ref a4), some (.ref a5), some (.ref a6), some (.ref a7), some (.int x8), some (.int x9), none, none, some (.int x12), none] [] h)) ∧ ((¬ x1 ≤ x13) → (vp_in x12 26 ∧ ∃ r1 Lr1, rr h 2908 (x12).toNatClampNeg = some r1 ∧ (lay r1 = (2, Lr1, 10) ∧ r1 < N0) ∧ (vp_in x13 Lr1 ∧ ∃ r2, rr h r1 (x13).toNatClampNeg = some r2 ∧ lay r2 = (0, 13, 2) ∧ (((¬ (ri h r2 1) = (0 : Int32)) → (W_X10_clear g d av Q n 265 [some (.ref 2759), some (.int x1), some (.int x2), some (.ref a3), some (.ref a4), some (.ref a5), some (.ref a6), some (.ref a7), some (.int x8), some (.int x9), none, none, some (.int x12), some (.int x13)] [] h)) ∧ (((ri h r2 1) = (0 : Int32)) → ((((ri h a6 1) = (0 : Int32)) → (W_X10_clear g d av Q n 326 [some (.ref 2759), some (.int x1), some (.int x2), some (.ref a3), some (.ref a4), some (.ref a5), some (.ref a6), some (.ref a7), some (.int x8), some (.int x9), none, none, some (.int x12), some (.int x13)] [] h)) ∧ ((¬ (ri h a6 1) = (0 : Int32)) → (vp_in x8 26 ∧ ∃ r3 Lr3, rr h 2908 (x8).toNatClampNeg = some r3 ∧ (lay r3 = (2, Lr3, 10) ∧ r3 < N0) ∧ (vp_in x13 Lr3 ∧ ∃ r4, rr h r3 (x13).toNatClampNeg = some r4 ∧ lay r4 = (0, 13, 2) ∧ (((¬ (ri h r4 1) = (0 : Int32)) → (W_X10_clear g d av Q n 265 [some (.ref 2759), some (.int x1), some (.int x2), some (.ref a3), some (.ref a4), some (.ref a5), some (.ref a6), some (.ref a7), some (.int x8), some (.int x9), none, none, some (.int x12), some (.int x13)] [] h)) ∧ (((ri h r4 1) = (0 : Int32)) → (W_X10_clear g d av Q n 326 [some (.ref 2759), some (.int x1), some (.int x2), some (.ref a3), some (.ref a4), some (.ref a5), some (.ref a6), some (.ref a7), some (.int x8), some (.int x9), none, none, some (.int x12), some (.int x13)] [] h))))))))))))) : W_X10_clear g d av Q n 216 [some (.ref 2759), some (.int x1), some (.int x2), some (.ref a3), some (.ref a4), some (.ref a5), some (.ref a6), some (.ref a7), some (.int x8), some (.int x9), none, none, some (.int x12), some (.int x13)] [] h := by
  refine r_iload dX10_clear_216 rfl ?_
  refine r_iload_n dX10_clear_218 rfl rfl ?_
  refine r_icmp_ge (tgt := 332) dX10_clear_219 rfl (fun cH => ?_) (fun cH => ?_)
  · replace H := H.1 cH
    refine r_prune [true, true, true, true, true, true, true, true, true, true, false, false, true, false] (ls2 := [some (.ref 2759), some (.int x1), some (.int x2), some (.ref a3), some (.ref a4), some (.ref a5), some (.ref a6), some (.ref a7), some (.int x8), some (.int x9), none, none, some (.int x12), none]) rfl ?_
    exact H
  · replace H := H.2 cH
    refine r_aload_n dX10_clear_222 rfl rfl ?_
    refine m_getF (x := 2908) hp fw_X10_487 dX10_clear_223 rfl ly_10 (ff_10_44 ly_10) ?_
    refine r_iload dX10_clear_226 rfl ?_
    have hir1 := H.1
    obtain ⟨r1, Lr1, er1, tr1, H⟩ := H.2
    refine m_aalM (x := r1) hp dX10_clear_228 (lf_10_44 ly_10) rfl rfl (lu_10_44 ly_10) hir1 er1 ?_
    refine r_iload dX10_clear_229 rfl ?_
    have hir2 := H.1
    obtain ⟨r2, er2, tr2, H⟩ := H.2
    refine m_aalM (x := r2) hp dX10_clear_231 tr1.1 rfl rfl tr1.2 hir2 er2 ?_
    refine m_getI hp fw_X10_25 dX10_clear_232 rfl tr2 ?_
    refine r_if_ne (tgt := 265) dX10_clear_235 rfl (fun cH => ?_) (fun cH => ?_)
    · replace H := H.1 cH
      exact H
    · replace H := H.2 cH
      refine r_aload dX10_clear_238 rfl ?_
      refine m_getI hp fw_X10_25 dX10_clear_240 rfl t6 ?_
      refine r_if_eq (tgt := 326) dX10_clear_243 rfl (fun cH => ?_) (fun cH => ?_)
      · replace H := H.1 cH
        exact H
      · replace H := H.2 cH
        refine r_aload_n dX10_clear_246 rfl rfl ?_
        refine m_getF (x := 2908) hp fw_X10_487 dX10_clear_247 rfl ly_10 (ff_10_44 ly_10) ?_
        refine r_iload dX10_clear_250 rfl ?_
        have hir3 := H.1
        obtain ⟨r3, Lr3, er3, tr3, H⟩ := H.2
        refine m_aalM (x := r3) hp dX10_clear_252 (lf_10_44 ly_10) rfl rfl (lu_10_44 ly_10) hir3 er3 ?_
        refine r_iload dX10_clear_253 rfl ?_
        have hir4 := H.1
        obtain ⟨r4, er4, tr4, H⟩ := H.2
        refine m_aalM (x := r4) hp dX10_clear_255 tr3.1 rfl rfl tr3.2 hir4 er4 ?_
        refine m_getI hp fw_X10_25 dX10_clear_256 rfl tr4 ?_
        refine r_if_ne (tgt := 265) dX10_clear_259 rfl (fun cH => ?_) (fun cH => ?_)
        · replace H := H.1 cH
          exact H
        · replace H := H.2 cH
          refine r_goto (tgt := 326) dX10_clear_262 rfl ?_
          exact H
theorem s_X10_clear_265 {g : GX} {d : Nat} {av : List Value} {Q : QT} {n : Nat} {h : Hp} {x1 : Int32} {x2 : Int32} {a3 : Nat} {a4 : Nat} {a5 : Nat} {a6 : Nat} {a7 : Nat} {x8 : Int32} {x9 : Int32} {x12 : Int32} {x13 : Int32} (hp : g.2.2.2.2 = true) (t3 : lay a3 = (0, 13, 2)) (t4 : lay a4 = (0, 13, 2)) (t5 : lay a5 = (0, 13, 2)) (t6 : lay a6 = (0, 13, 2)) (t7 : lay a7 = (0, 13, 2)) (H : vp_in x12 26 ∧ ∃ r1 Lr1, rr h 2908 (x12).toNatClampNeg = some r1 ∧ (lay r1 = (2, Lr1, 10) ∧ r1 < N0) ∧ (vp_in x13 Lr1 ∧ ∃ r2, rr h r1 (x13).toNatClampNeg = some r2 ∧ lay r2 = (0, 13, 2) ∧ (CallV g m_X10_times_2 d [.ref a4, .ref a7, .ref r2] n h (fun h3 => (vp_in x8 26 ∧ ∃ r4 Lr4, rr h3 2908 (x8).toNatClampNeg = some r4 ∧ (lay r4 = (2, Lr4, 10) ∧ r4 < N0) ∧ (vp_in x13 Lr4 ∧ ∃ r5, rr h3 r4 (x13).toNatClampNeg = some r5 ∧ lay r5 = (0, 13, 2) ∧ (CallV g m_X10_times_2 d [.ref a5, .ref a6, .ref r5] n h3 (fun h6 => (CallV g m_X10_plus d [.ref a4, .ref a4, .ref a5, .int (1 : Int32)] n h6 (fun h7 => (vp_in x12 26 ∧ ∃ r8 Lr8, rr h7 2908 (x12).toNatClampNeg = some r8 ∧ (lay r8 = (2, Lr8, 10) ∧ r8 < N0) ∧ (vp_in x13 Lr8 ∧ ∃ r9, rr h7 r8 (x13).toNatClampNeg = some r9 ∧ lay r9 = (0, 13, 2) ∧ (CallV g m_X10_exact d [.ref 2759, .ref r9, .ref a4, .ref a3] n h7 (fun h10 => (W_X10_clear g d av Q n 326 [some (.ref 2759), some (.int x1), some (.int x2), some (.ref a3), some (.ref a4), some (.ref a5), some (.ref a6), some (.ref a7), some (.int x8), some (.int x9), none, none, some (.int x12), some (.int x13)] [] h10))))))))))))))) : W_X10_clear g d av Q n 265 [some (.ref 2759), some (.int x1), some (.int x2), some (.ref a3), some (.ref a4), some (.ref a5), some (.ref a6), some (.ref a7), some (.int x8), some (.int x9), none, none, some (.int x12), some (.int x13)] [] h := by
  refine r_aload dX10_clear_265 rfl ?_
  refine r_aload dX10_clear_267 rfl ?_
  refine r_aload_n dX10_clear_269 rfl rfl ?_
  refine m_getF (x := 2908) hp fw_X10_487 dX10_clear_270 rfl ly_10 (ff_10_44 ly_10) ?_
  refine r_iload dX10_clear_273 rfl ?_
  have hir1 := H.1
  obtain ⟨r1, Lr1, er1, tr1, H⟩ := H.2
  refine m_aalM (x := r1) hp dX10_clear_275 (lf_10_44 ly_10) rfl rfl (lu_10_44 ly_10) hir1 er1 ?_
  refine r_iload dX10_clear_276 rfl ?_
  have hir2 := H.1
  obtain ⟨r2, er2, tr2, H⟩ := H.2
  refine m_aalM (x := r2) hp dX10_clear_278 tr1.1 rfl rfl tr1.2 hir2 er2 ?_
  refine k_SV (As := [.ref a4, .ref a7, .ref r2]) (stk := []) cs_X10_106 dX10_clear_279 rfl (Nat.le_of_ble_eq_true rfl) (H.mono (fun h3 H => ?_)) ⟨Nat.le_refl _, Nat.le_refl _⟩
  refine r_aload dX10_clear_282 rfl ?_
  refine r_aload dX10_clear_284 rfl ?_
  refine r_aload_n dX10_clear_286 rfl rfl ?_
  refine m_getF (x := 2908) hp fw_X10_487 dX10_clear_287 rfl ly_10 (ff_10_44 ly_10) ?_
  refine r_iload dX10_clear_290 rfl ?_
  have hir4 := H.1
  obtain ⟨r4, Lr4, er4, tr4, H⟩ := H.2
  refine m_aalM (x := r4) hp dX10_clear_292 (lf_10_44 ly_10) rfl rfl (lu_10_44 ly_10) hir4 er4 ?_
  refine r_iload dX10_clear_293 rfl ?_
  have hir5 := H.1
  obtain ⟨r5, er5, tr5, H⟩ := H.2
  refine m_aalM (x := r5) hp dX10_clear_295 tr4.1 rfl rfl tr4.2 hir5 er5 ?_
  refine k_SV (As := [.ref a5, .ref a6, .ref r5]) (stk := []) cs_X10_106 dX10_clear_296 rfl (Nat.le_of_ble_eq_true rfl) (H.mono (fun h6 H => ?_)) ⟨Nat.le_refl _, Nat.le_refl _⟩
  refine r_aload dX10_clear_299 rfl ?_
  refine r_aload dX10_clear_301 rfl ?_
  refine r_aload dX10_clear_303 rfl ?_
  refine r_iconst (v := (1 : Int32)) dX10_clear_305 rfl ?_
  refine k_SV (As := [.ref a4, .ref a4, .ref a5, .int (1 : Int32)]) (stk := []) cs_X10_101 dX10_clear_306 rfl (Nat.le_of_ble_eq_true rfl) (H.mono (fun h7 H => ?_)) ⟨Nat.le_refl _, Nat.le_refl _⟩
  refine r_aload_n dX10_clear_309 rfl rfl ?_
  refine r_aload_n dX10_clear_310 rfl rfl ?_
  refine m_getF (x := 2908) hp fw_X10_487 dX10_clear_311 rfl ly_10 (ff_10_44 ly_10) ?_
  refine r_iload dX10_clear_314 rfl ?_
  have hir8 := H.1
  obtain ⟨r8, Lr8, er8, tr8, H⟩ := H.2
  refine m_aalM (x := r8) hp dX10_clear_316 (lf_10_44 ly_10) rfl rfl (lu_10_44 ly_10) hir8 er8 ?_
  refine r_iload dX10_clear_317 rfl ?_
  have hir9 := H.1
  obtain ⟨r9, er9, tr9, H⟩ := H.2
  refine m_aalM (x := r9) hp dX10_clear_319 tr8.1 rfl rfl tr8.2 hir9 er9 ?_
  refine r_aload dX10_clear_320 rfl ?_
  refine r_aload_n dX10_clear_322 rfl rfl ?_
  refine k_VV (As := [.ref r9, .ref a4, .ref a3]) (stk := []) hp cv_X10_110 dX10_clear_323 rfl (Nat.le_of_ble_eq_true rfl) ly_10 (H.mono (fun h10 H => ?_)) ⟨Nat.le_refl _, Nat.le_refl _⟩
  exact H
theorem s_X10_clear_326 {g : GX} {d : Nat} {av : List Value} {Q : QT} {n : Nat} {h : Hp} {x1 : Int32} {x2 : Int32} {a3 : Nat} {a4 : Nat} {a5 : Nat} {a6 : Nat} {a7 : Nat} {x8 : Int32} {x9 : Int32} {x12 : Int32} {x13 : Int32} (hp : g.2.2.2.2 = true) (t3 : lay a3 = (0, 13, 2)) (t4 : lay a4 = (0, 13, 2)) (t5 : lay a5 = (0, 13, 2)) (t6 : lay a6 = (0, 13, 2)) (t7 : lay a7 = (0, 13, 2)) (H : W_X10_clear g d av Q n 216 [some (.ref 2759), some (.int x1), some (.int x2), some (.ref a3), some (.ref a4), some (.ref a5), some (.ref a6), some (.ref a7), some (.int x8), some (.int x9), none, none, some (.int x12), some (.int (x13 + (1 : Int32)))] [] h) : W_X10_clear g d av Q n 326 [some (.ref 2759), some (.int x1), some (.int x2), some (.ref a3), some (.ref a4), some (.ref a5), some (.ref a6), some (.ref a7), some (.int x8), some (.int x9), none, none, some (.int x12), some (.int x13)] [] h := by
  refine r_iinc (v := (x13 + (1 : Int32))) (ls2 := [some (.ref 2759), some (.int x1), some (.int x2), some (.ref a3), some (.ref a4), some (.ref a5), some (.ref a6), some (.ref a7), some (.int x8), some (.int x9), none, none, some (.int x12), some (.int (x13 + (1 : Int32)))]) dX10_clear_326 rfl rfl (by decide) rfl ?_
  refine r_goto (tgt := 216) dX10_clear_329 rfl ?_
  exact H
theorem s_X10_clear_332 {g : GX} {d : Nat} {av : List Value} {Q : QT} {n : Nat} {h : Hp} {x1 : Int32} {x2 : Int32} {a3 : Nat} {a4 : Nat} {a5 : Nat} {a6 : Nat} {a7 : Nat} {x8 : Int32} {x9 : Int32} {x12 : Int32} (hp : g.2.2.2.2 = true) (t3 : lay a3 = (0, 13, 2)) (t4 : lay a4 = (0, 13, 2)) (t5 : lay a5 = (0, 13, 2)) (t6 : lay a6 = (0, 13, 2)) (t7 : lay a7 = (0, 13, 2)) (H : W_X10_clear g d av Q n 179 [some (.ref 2759), some (.int x1), some (.int x2), some (.ref a3), some (.ref a4), some (.ref a5), some (.ref a6), some (.ref a7), some (.int x8), some (.int x9), none, none, some (.int (x12 + (1 : Int32))), none] [] h) : W_X10_clear g d av Q n 332 [some (.ref 2759), some (.int x1), some (.int x2), some (.ref a3), some (.ref a4), some (.ref a5), some (.ref a6), some (.ref a7), some (.int x8), some (.int x9), none, none, some (.int x12), none] [] h := by
  refine r_iinc (v := (x12 + (1 : Int32))) (ls2 := [some (.ref 2759), some (.int x1), some (.int x2), some (.ref a3), some (.ref a4), some (.ref a5), some (.ref a6), some (.ref a7), some (.int x8), some (.int x9), none, none, some (.int (x12 + (1 : Int32))), none]) dX10_clear_332 rfl rfl (by decide) rfl ?_
  refine r_goto (tgt := 179) dX10_clear_335 rfl ?_
  exact H
theorem s_X10_clear_347 {g : GX} {d : Nat} {av : List Value} {Q : QT} {n : Nat} {h : Hp} {x1 : Int32} {x2 : Int32} {a3 : Nat} {a4 : Nat} {a5 : Nat} {a6 : Nat} {a7 : Nat} {x8 : Int32} {x9 : Int32} (hp : g.2.2.2.2 = true) (t3 : lay a3 = (0, 13, 2)) (t4 : lay a4 = (0, 13, 2)) (t5 : lay a5 = (0, 13, 2)) (t6 : lay a6 = (0, 13, 2)) (t7 : lay a7 = (0, 13, 2)) (H : W_X10_clear g d av Q n 45 [some (.ref 2759), some (.int x1), some (.int x2), some (.ref a3), some (.ref a4), some (.ref a5), some (.ref a6), some (.ref a7), some (.int x8), some (.int (x9 + (1 : Int32))), none, none, none, none] [] h) : W_X10_clear g d av Q n 347 [some (.ref 2759), some (.int x1), some (.int x2), some (.ref a3), some (.ref a4), some (.ref a5), some (.ref a6), some (.ref a7), some (.int x8), some (.int x9), none, none, none, none] [] h := by
  refine r_iinc (v := (x9 + (1 : Int32))) (ls2 := [some (.ref 2759), some (.int x1), some (.int x2), some (.ref a3), some (.ref a4), some (.ref a5), some (.ref a6), some (.ref a7), some (.int x8), some (.int (x9 + (1 : Int32))), none, none, none, none]) dX10_clear_347 rfl rfl (by decide) rfl ?_
  refine r_goto (tgt := 45) dX10_clear_350 rfl ?_
  exact H
abbrev W_X10_tries (g : GX) (d : Nat) (av : List Value) (Q : QT) (n : Nat) (pc : Nat) (ls : LV) (stk : List Value) (h : Hp) : Prop := RJ g m_X10_tries (d + 1) 0 0 av Q pc ls stk n h 0 0
theorem s_X10_tries_0 {g : GX} {d : Nat} {av : List Value} {Q : QT} {n : Nat} {h : Hp} {x1 : Int32} {x2 : Int32} (hp : g.2.2.2.2 = true)  (H : W_X10_tries g d av Q n 19 [some (.ref 2759), some (.int x1), some (.int x2), some (.int ((x1 + (1 : Int32)) * (x2 + (1 : Int32)))), some (.int ((ri h 2759 29) - x1)), some (.int (0 : Int32)), none, none, none, none, none, none, none, none] [] h) : W_X10_tries g d av Q n 0 [some (.ref 2759), some (.int x1), some (.int x2), none, none, none, none, none, none, none, none, none, none, none] [] h := by
  refine r_iload_n dX10_tries_0 rfl rfl ?_
  refine r_iconst (v := (1 : Int32)) dX10_tries_1 rfl ?_
  refine r_iadd dX10_tries_2 ?_
  refine r_iload_n dX10_tries_3 rfl rfl ?_
  refine r_iconst (v := (1 : Int32)) dX10_tries_4 rfl ?_
  refine r_iadd dX10_tries_5 ?_
  refine r_imul dX10_tries_6 ?_
  refine r_istore_n (ls2 := [some (.ref 2759), some (.int x1), some (.int x2), some (.int ((x1 + (1 : Int32)) * (x2 + (1 : Int32)))), none, none, none, none, none, none, none, none, none, none]) dX10_tries_7 rfl (by decide) rfl ?_
  refine r_aload_n dX10_tries_8 rfl rfl ?_
  refine m_getI hp fw_X10_607 dX10_tries_9 rfl ly_10 ?_
  refine r_iload_n dX10_tries_12 rfl rfl ?_
  refine r_isub dX10_tries_13 ?_
  refine r_istore (ls2 := [some (.ref 2759), some (.int x1), some (.int x2), some (.int ((x1 + (1 : Int32)) * (x2 + (1 : Int32)))), some (.int ((ri h 2759 29) - x1)), none, none, none, none, none, none, none, none, none]) dX10_tries_14 (by decide) rfl ?_
  refine r_iconst (v := (0 : Int32)) dX10_tries_16 rfl ?_
  refine r_istore (ls2 := [some (.ref 2759), some (.int x1), some (.int x2), some (.int ((x1 + (1 : Int32)) * (x2 + (1 : Int32)))), some (.int ((ri h 2759 29) - x1)), some (.int (0 : Int32)), none, none, none, none, none, none, none, none]) dX10_tries_17 (by decide) rfl ?_
  exact H
theorem s_X10_tries_19 {g : GX} {d : Nat} {av : List Value} {Q : QT} {n : Nat} {h : Hp} {x1 : Int32} {x2 : Int32} {x3 : Int32} {x4 : Int32} {x5 : Int32} (hp : g.2.2.2.2 = true)  (H : ((x4 ≤ x5) → (W_X10_tries g d av Q n 115 [some (.ref 2759), none, none, some (.int x3), some (.int x4), some (.int (0 : Int32)), some (.int (-1 : Int32)), some (.int (0 : Int32)), none, none, none, none, none, none] [] h)) ∧ ((¬ x4 ≤ x5) → (W_X10_tries g d av Q n 29 [some (.ref 2759), some (.int x1), some (.int x2), some (.int x3), some (.int x4), some (.int x5), some (.int (0 : Int32)), none, none, none, none, none, none, none] [] h))) : W_X10_tries g d av Q n 19 [some (.ref 2759), some (.int x1), some (.int x2), some (.int x3), some (.int x4), some (.int x5), none, none, none, none, none, none, none, none] [] h := by
  refine r_iload dX10_tries_19 rfl ?_
  refine r_iload dX10_tries_21 rfl ?_
  refine r_icmp_ge (tgt := 106) dX10_tries_23 rfl (fun cH => ?_) (fun cH => ?_)
  · replace H := H.1 cH
    refine r_iconst (v := (0 : Int32)) dX10_tries_106 rfl ?_
    refine r_istore (ls2 := [some (.ref 2759), some (.int x1), some (.int x2), some (.int x3), some (.int x4), some (.int (0 : Int32)), none, none, none, none, none, none, none, none]) dX10_tries_107 (by decide) rfl ?_
    refine r_iconst (v := (-1 : Int32)) dX10_tries_109 rfl ?_
    refine r_istore (ls2 := [some (.ref 2759), some (.int x1), some (.int x2), some (.int x3), some (.int x4), some (.int (0 : Int32)), some (.int (-1 : Int32)), none, none, none, none, none, none, none]) dX10_tries_110 (by decide) rfl ?_
    refine r_iconst (v := (0 : Int32)) dX10_tries_112 rfl ?_
    refine r_istore (ls2 := [some (.ref 2759), some (.int x1), some (.int x2), some (.int x3), some (.int x4), some (.int (0 : Int32)), some (.int (-1 : Int32)), some (.int (0 : Int32)), none, none, none, none, none, none]) dX10_tries_113 (by decide) rfl ?_
    refine r_prune [true, false, false, true, true, true, true, true, false, false, false, false, false, false] (ls2 := [some (.ref 2759), none, none, some (.int x3), some (.int x4), some (.int (0 : Int32)), some (.int (-1 : Int32)), some (.int (0 : Int32)), none, none, none, none, none, none]) rfl ?_
    exact H
  · replace H := H.2 cH
    refine r_iconst (v := (0 : Int32)) dX10_tries_26 rfl ?_
    refine r_istore (ls2 := [some (.ref 2759), some (.int x1), some (.int x2), some (.int x3), some (.int x4), some (.int x5), some (.int (0 : Int32)), none, none, none, none, none, none, none]) dX10_tries_27 (by decide) rfl ?_
    exact H
theorem s_X10_tries_29 {g : GX} {d : Nat} {av : List Value} {Q : QT} {n : Nat} {h : Hp} {x1 : Int32} {x2 : Int32} {x3 : Int32} {x4 : Int32} {x5 : Int32} {x6 : Int32} (hp : g.2.2.2.2 = true)  (H : ((x1 < x6) → (W_X10_tries g d av Q n 19 [some (.ref 2759), some (.int x1), some (.int x2), some (.int x3), some (.int x4), some (.int (x5 + (1 : Int32))), none, none, none, none, none, none, none, none] [] h)) ∧ ((¬ x1 < x6) → (W_X10_tries g d av Q n 41 [some (.ref 2759), some (.int x1), some (.int x2), some (.int x3), some (.int x4), some (.int x5), some (.int x6), some (.int (1 : Int32)), some (.int (0 : Int32)), none, none, none, none, none] [] h))) : W_X10_tries g d av Q n 29 [some (.ref 2759), some (.int x1), some (.int x2), some (.int x3), some (.int x4), some (.int x5), some (.int x6), none, none, none, none, none, none, none] [] h := by
  refine r_iload dX10_tries_29 rfl ?_
  refine r_iload_n dX10_tries_31 rfl rfl ?_
  refine r_icmp_gt (tgt := 100) dX10_tries_32 rfl (fun cH => ?_) (fun cH => ?_)
  · replace H := H.1 cH
    refine r_iinc (v := (x5 + (1 : Int32))) (ls2 := [some (.ref 2759), some (.int x1), some (.int x2), some (.int x3), some (.int x4), some (.int (x5 + (1 : Int32))), some (.int x6), none, none, none, none, none, none, none]) dX10_tries_100 rfl rfl (by decide) rfl ?_
    refine r_goto (tgt := 19) dX10_tries_103 rfl ?_
    refine r_prune [true, true, true, true, true, true, false, false, false, false, false, false, false, false] (ls2 := [some (.ref 2759), some (.int x1), some (.int x2), some (.int x3), some (.int x4), some (.int (x5 + (1 : Int32))), none, none, none, none, none, none, none, none]) rfl ?_
    exact H
  · replace H := H.2 cH
    refine r_iconst (v := (1 : Int32)) dX10_tries_35 rfl ?_
    refine r_istore (ls2 := [some (.ref 2759), some (.int x1), some (.int x2), some (.int x3), some (.int x4), some (.int x5), some (.int x6), some (.int (1 : Int32)), none, none, none, none, none, none]) dX10_tries_36 (by decide) rfl ?_
    refine r_iconst (v := (0 : Int32)) dX10_tries_38 rfl ?_
    refine r_istore (ls2 := [some (.ref 2759), some (.int x1), some (.int x2), some (.int x3), some (.int x4), some (.int x5), some (.int x6), some (.int (1 : Int32)), some (.int (0 : Int32)), none, none, none, none, none]) dX10_tries_39 (by decide) rfl ?_
    exact H
theorem s_X10_tries_41 {g : GX} {d : Nat} {av : List Value} {Q : QT} {n : Nat} {h : Hp} {x1 : Int32} {x2 : Int32} {x3 : Int32} {x4 : Int32} {x5 : Int32} {x6 : Int32} {x7 : Int32} {x8 : Int32} (hp : g.2.2.2.2 = true)  (H : ((x2 < x8) → (W_X10_tries g d av Q n 29 [some (.ref 2759), some (.int x1), some (.int x2), some (.int x3), some (.int x4), some (.int x5), some (.int (x6 + (1 : Int32))), none, none, none, none, none, none, none] [] h)) ∧ ((¬ x2 < x8) → (vp_in x5 60 ∧ ∃ r1 Lr1, rr h 2971 (x5).toNatClampNeg = some r1 ∧ lay r1 = (1, Lr1, 0) ∧ (vp_in (x5 + x6) 60 ∧ (CallI g m_X10_mul d [.int x7, .int (ri h 2853 ((x5 + x6)).toNatClampNeg)] n h (fun v2 h2 => (vp_in ((x6 * (x2 + (1 : Int32))) + x8) Lr1 ∧ ∀ h3, h3 = wi h2 r1 (((x6 * (x2 + (1 : Int32))) + x8)).toNatClampNeg v2 → (CallI g m_X10_mul d [.int x7, .int x5] n h3 (fun v4 h4 => (W_X10_tries g d av Q n 41 [some (.ref 2759), some (.int x1), some (.int x2), some (.int x3), some (.int x4), some (.int x5), some (.int x6), some (.int v4), some (.int (x8 + (1 : Int32))), none, none, none, none, none] [] h4)))))))))) : W_X10_tries g d av Q n 41 [some (.ref 2759), some (.int x1), some (.int x2), some (.int x3), some (.int x4), some (.int x5), some (.int x6), some (.int x7), some (.int x8), none, none, none, none, none] [] h := by
  refine r_iload dX10_tries_41 rfl ?_
  refine r_iload_n dX10_tries_43 rfl rfl ?_
  refine r_icmp_gt (tgt := 94) dX10_tries_44 rfl (fun cH => ?_) (fun cH => ?_)
  · replace H := H.1 cH
    refine r_iinc (v := (x6 + (1 : Int32))) (ls2 := [some (.ref 2759), some (.int x1), some (.int x2), some (.int x3), some (.int x4), some (.int x5), some (.int (x6 + (1 : Int32))), some (.int x7), some (.int x8), none, none, none, none, none]) dX10_tries_94 rfl rfl (by decide) rfl ?_
    refine r_goto (tgt := 29) dX10_tries_97 rfl ?_
    refine r_prune [true, true, true, true, true, true, true, false, false, false, false, false, false, false] (ls2 := [some (.ref 2759), some (.int x1), some (.int x2), some (.int x3), some (.int x4), some (.int x5), some (.int (x6 + (1 : Int32))), none, none, none, none, none, none, none]) rfl ?_
    exact H
  · replace H := H.2 cH
    refine r_aload_n dX10_tries_47 rfl rfl ?_
    refine m_getF (x := 2971) hp fw_X10_532 dX10_tries_48 rfl ly_10 (ff_10_60 ly_10) ?_
    refine r_iload dX10_tries_51 rfl ?_
    have hir1 := H.1
    obtain ⟨r1, Lr1, er1, tr1, H⟩ := H.2
    refine m_aalM (x := r1) hp dX10_tries_53 (lf_10_60 ly_10) rfl rfl (lu_10_60 ly_10) hir1 er1 ?_
    refine r_iload dX10_tries_54 rfl ?_
    refine r_iload_n dX10_tries_56 rfl rfl ?_
    refine r_iconst (v := (1 : Int32)) dX10_tries_57 rfl ?_
    refine r_iadd dX10_tries_58 ?_
    refine r_imul dX10_tries_59 ?_
    refine r_iload dX10_tries_60 rfl ?_
    refine r_iadd dX10_tries_62 ?_
    refine r_iload dX10_tries_63 rfl ?_
    refine r_aload_n dX10_tries_65 rfl rfl ?_
    refine m_getF (x := 2853) hp fw_X10_465 dX10_tries_66 rfl ly_10 (ff_10_28 ly_10) ?_
    refine r_iload dX10_tries_69 rfl ?_
    refine r_iload dX10_tries_71 rfl ?_
    refine r_iadd dX10_tries_73 ?_
    refine m_iald hp dX10_tries_74 (lf_10_28 ly_10) H.1 ?_
    replace H := H.2
    refine k_SI (As := [.int x7, .int (ri h 2853 ((x5 + x6)).toNatClampNeg)]) (stk := [.int ((x6 * (x2 + (1 : Int32))) + x8), .ref r1]) cs_X10_56 dX10_tries_75 rfl (Nat.le_of_ble_eq_true rfl) (H.mono (fun v2 h2 H => ?_)) ⟨Nat.le_refl _, Nat.le_refl _⟩
    refine m_iast hp dX10_tries_78 tr1 H.1 (fun h3 eh3 => ?_)
    replace H := H.2 h3 eh3
    refine r_iload dX10_tries_79 rfl ?_
    refine r_iload dX10_tries_81 rfl ?_
    refine k_SI (As := [.int x7, .int x5]) (stk := []) cs_X10_56 dX10_tries_83 rfl (Nat.le_of_ble_eq_true rfl) (H.mono (fun v4 h4 H => ?_)) ⟨Nat.le_refl _, Nat.le_refl _⟩
    refine r_istore (ls2 := [some (.ref 2759), some (.int x1), some (.int x2), some (.int x3), some (.int x4), some (.int x5), some (.int x6), some (.int v4), some (.int x8), none, none, none, none, none]) dX10_tries_86 (by decide) rfl ?_
    refine r_iinc (v := (x8 + (1 : Int32))) (ls2 := [some (.ref 2759), some (.int x1), some (.int x2), some (.int x3), some (.int x4), some (.int x5), some (.int x6), some (.int v4), some (.int (x8 + (1 : Int32))), none, none, none, none, none]) dX10_tries_88 rfl rfl (by decide) rfl ?_
    refine r_goto (tgt := 41) dX10_tries_91 rfl ?_
    exact H
theorem s_X10_tries_115 {g : GX} {d : Nat} {av : List Value} {Q : QT} {n : Nat} {h : Hp} {x3 : Int32} {x4 : Int32} {x5 : Int32} {x6 : Int32} {x7 : Int32} (hp : g.2.2.2.2 = true)  (H : ((x3 ≤ x7) → (W_X10_tries g d av Q n 339 [some (.ref 2759), none, none, some (.int x3), none, none, some (.int x6), none, none, none, none, none, none, none] [] h)) ∧ ((¬ x3 ≤ x7) → ((((0 : Int32) ≤ x6) → (W_X10_tries g d av Q n 339 [some (.ref 2759), none, none, some (.int x3), none, none, some (.int x6), none, none, none, none, none, none, none] [] h)) ∧ ((¬ (0 : Int32) ≤ x6) → (W_X10_tries g d av Q n 130 [some (.ref 2759), none, none, some (.int x3), some (.int x4), some (.int x5), some (.int x6), some (.int x7), some (.int x5), none, none, none, none, none] [] h))))) : W_X10_tries g d av Q n 115 [some (.ref 2759), none, none, some (.int x3), some (.int x4), some (.int x5), some (.int x6), some (.int x7), none, none, none, none, none, none] [] h := by
  refine r_iload dX10_tries_115 rfl ?_
  refine r_iload_n dX10_tries_117 rfl rfl ?_
  refine r_icmp_ge (tgt := 339) dX10_tries_118 rfl (fun cH => ?_) (fun cH => ?_)
  · replace H := H.1 cH
    refine r_prune [true, false, false, true, false, false, true, false, false, false, false, false, false, false] (ls2 := [some (.ref 2759), none, none, some (.int x3), none, none, some (.int x6), none, none, none, none, none, none, none]) rfl ?_
    exact H
  · replace H := H.2 cH
    refine r_iload dX10_tries_121 rfl ?_
    refine r_if_ge (tgt := 339) dX10_tries_123 rfl (fun cH => ?_) (fun cH => ?_)
    · replace H := H.1 cH
      refine r_prune [true, false, false, true, false, false, true, false, false, false, false, false, false, false] (ls2 := [some (.ref 2759), none, none, some (.int x3), none, none, some (.int x6), none, none, none, none, none, none, none]) rfl ?_
      exact H
    · replace H := H.2 cH
      refine r_iload dX10_tries_126 rfl ?_
      refine r_istore (ls2 := [some (.ref 2759), none, none, some (.int x3), some (.int x4), some (.int x5), some (.int x6), some (.int x7), some (.int x5), none, none, none, none, none]) dX10_tries_128 (by decide) rfl ?_
      exact H
theorem s_X10_tries_130 {g : GX} {d : Nat} {av : List Value} {Q : QT} {n : Nat} {h : Hp} {x3 : Int32} {x4 : Int32} {x5 : Int32} {x6 : Int32} {x7 : Int32} {x8 : Int32} (hp : g.2.2.2.2 = true)  (H : ((x4 ≤ x8) → (W_X10_tries g d av Q n 156 [some (.ref 2759), none, none, some (.int x3), some (.int x4), some (.int x5), some (.int x6), some (.int x7), some (.int x8), none, none, none, none, none] [] h)) ∧ ((¬ x4 ≤ x8) → (vp_in x8 60 ∧ ∃ r1 Lr1, rr h 2971 (x8).toNatClampNeg = some r1 ∧ lay r1 = (1, Lr1, 0) ∧ (vp_in x7 Lr1 ∧ (((¬ (ri h r1 (x7).toNatClampNeg) = (0 : Int32)) → (W_X10_tries g d av Q n 156 [some (.ref 2759), none, none, some (.int x3), some (.int x4), some (.int x5), some (.int x6), some (.int x7), some (.int x8), none, none, none, none, none] [] h)) ∧ (((ri h r1 (x7).toNatClampNeg) = (0 : Int32)) → (W_X10_tries g d av Q n 130 [some (.ref 2759), none, none, some (.int x3), some (.int x4), some (.int x5), some (.int x6), some (.int x7), some (.int (x8 + (1 : Int32))), none, none, none, none, none] [] h))))))) : W_X10_tries g d av Q n 130 [some (.ref 2759), none, none, some (.int x3), some (.int x4), some (.int x5), some (.int x6), some (.int x7), some (.int x8), none, none, none, none, none] [] h := by
  refine r_iload dX10_tries_130 rfl ?_
  refine r_iload dX10_tries_132 rfl ?_
  refine r_icmp_ge (tgt := 156) dX10_tries_134 rfl (fun cH => ?_) (fun cH => ?_)
  · replace H := H.1 cH
    exact H
  · replace H := H.2 cH
    refine r_aload_n dX10_tries_137 rfl rfl ?_
    refine m_getF (x := 2971) hp fw_X10_532 dX10_tries_138 rfl ly_10 (ff_10_60 ly_10) ?_
    refine r_iload dX10_tries_141 rfl ?_
    have hir1 := H.1
    obtain ⟨r1, Lr1, er1, tr1, H⟩ := H.2
    refine m_aalM (x := r1) hp dX10_tries_143 (lf_10_60 ly_10) rfl rfl (lu_10_60 ly_10) hir1 er1 ?_
    refine r_iload dX10_tries_144 rfl ?_
    refine m_iald hp dX10_tries_146 tr1 H.1 ?_
    replace H := H.2
    refine r_if_ne (tgt := 156) dX10_tries_147 rfl (fun cH => ?_) (fun cH => ?_)
    · replace H := H.1 cH
      exact H
    · replace H := H.2 cH
      refine r_iinc (v := (x8 + (1 : Int32))) (ls2 := [some (.ref 2759), none, none, some (.int x3), some (.int x4), some (.int x5), some (.int x6), some (.int x7), some (.int (x8 + (1 : Int32))), none, none, none, none, none]) dX10_tries_150 rfl rfl (by decide) rfl ?_
      refine r_goto (tgt := 130) dX10_tries_153 rfl ?_
      exact H
theorem s_X10_tries_156 {g : GX} {d : Nat} {av : List Value} {Q : QT} {n : Nat} {h : Hp} {x3 : Int32} {x4 : Int32} {x5 : Int32} {x6 : Int32} {x7 : Int32} {x8 : Int32} (hp : g.2.2.2.2 = true)  (H : ((¬ x8 = x4) → (vp_in x8 60 ∧ ∃ r1 Lr1, rr h 2971 (x8).toNatClampNeg = some r1 ∧ lay r1 = (1, Lr1, 0) ∧ (vp_in x5 60 ∧ ∃ r2 Lr2, rr h 2971 (x5).toNatClampNeg = some r2 ∧ lay r2 = (1, Lr2, 0) ∧ (vp_in x8 60 ∧ fin 2971 (x8).toNatClampNeg = none ∧ ∀ h3, h3 = wr h 2971 (x8).toNatClampNeg (some r2) → (vp_in x5 60 ∧ fin 2971 (x5).toNatClampNeg = none ∧ ∀ h4, h4 = wr h3 2971 (x5).toNatClampNeg (some r1) → (vp_in x7 Lr1 ∧ (CallI g m_X10_inv d [.int (ri h4 r1 (x7).toNatClampNeg)] n h4 (fun v5 h5 => (W_X10_tries g d av Q n 215 [some (.ref 2759), none, none, some (.int x3), some (.int x4), some (.int x5), some (.int x6), some (.int x7), none, some (.ref r1), some (.int v5), some (.int (0 : Int32)), none, none] [] h5))))))))) ∧ ((x8 = x4) → (W_X10_tries g d av Q n 333 [some (.ref 2759), none, none, some (.int x3), some (.int x4), some (.int x5), some (.int x7), some (.int x7), none, none, none, none, none, none] [] h))) : W_X10_tries g d av Q n 156 [some (.ref 2759), none, none, some (.int x3), some (.int x4), some (.int x5), some (.int x6), some (.int x7), some (.int x8), none, none, none, none, none] [] h := by
  refine r_iload dX10_tries_156 rfl ?_
  refine r_iload dX10_tries_158 rfl ?_
  refine r_icmp_ne (tgt := 170) dX10_tries_160 rfl (fun cH => ?_) (fun cH => ?_)
  · replace H := H.1 cH
    refine r_aload_n dX10_tries_170 rfl rfl ?_
    refine m_getF (x := 2971) hp fw_X10_532 dX10_tries_171 rfl ly_10 (ff_10_60 ly_10) ?_
    refine r_iload dX10_tries_174 rfl ?_
    have hir1 := H.1
    obtain ⟨r1, Lr1, er1, tr1, H⟩ := H.2
    refine m_aalM (x := r1) hp dX10_tries_176 (lf_10_60 ly_10) rfl rfl (lu_10_60 ly_10) hir1 er1 ?_
    refine r_astore (ls2 := [some (.ref 2759), none, none, some (.int x3), some (.int x4), some (.int x5), some (.int x6), some (.int x7), some (.int x8), some (.ref r1), none, none, none, none]) dX10_tries_177 (by decide) rfl ?_
    refine r_aload_n dX10_tries_179 rfl rfl ?_
    refine m_getF (x := 2971) hp fw_X10_532 dX10_tries_180 rfl ly_10 (ff_10_60 ly_10) ?_
    refine r_iload dX10_tries_183 rfl ?_
    refine r_aload_n dX10_tries_185 rfl rfl ?_
    refine m_getF (x := 2971) hp fw_X10_532 dX10_tries_186 rfl ly_10 (ff_10_60 ly_10) ?_
    refine r_iload dX10_tries_189 rfl ?_
    have hir2 := H.1
    obtain ⟨r2, Lr2, er2, tr2, H⟩ := H.2
    refine m_aalM (x := r2) hp dX10_tries_191 (lf_10_60 ly_10) rfl rfl (lu_10_60 ly_10) hir2 er2 ?_
    refine m_aastR hp dX10_tries_192 (lf_10_60 ly_10) rfl rfl (Or.inl rfl) ao_int tr2 (lu_10_60 ly_10) (lay_ltA tr2) H.1 H.2.1 (fun h3 eh3 => ?_)
    replace H := H.2.2 h3 eh3
    refine r_aload_n dX10_tries_193 rfl rfl ?_
    refine m_getF (x := 2971) hp fw_X10_532 dX10_tries_194 rfl ly_10 (ff_10_60 ly_10) ?_
    refine r_iload dX10_tries_197 rfl ?_
    refine r_aload dX10_tries_199 rfl ?_
    refine m_aastR hp dX10_tries_201 (lf_10_60 ly_10) rfl rfl (Or.inl rfl) ao_int tr1 (lu_10_60 ly_10) (lay_ltA tr1) H.1 H.2.1 (fun h4 eh4 => ?_)
    replace H := H.2.2 h4 eh4
    refine r_aload dX10_tries_202 rfl ?_
    refine r_iload dX10_tries_204 rfl ?_
    refine m_iald hp dX10_tries_206 tr1 H.1 ?_
    replace H := H.2
    refine k_SI (As := [.int (ri h4 r1 (x7).toNatClampNeg)]) (stk := []) cs_X10_13 dX10_tries_207 rfl (Nat.le_of_ble_eq_true rfl) (H.mono (fun v5 h5 H => ?_)) ⟨Nat.le_refl _, Nat.le_refl _⟩
    refine r_istore (ls2 := [some (.ref 2759), none, none, some (.int x3), some (.int x4), some (.int x5), some (.int x6), some (.int x7), some (.int x8), some (.ref r1), some (.int v5), none, none, none]) dX10_tries_210 (by decide) rfl ?_
    refine r_iconst (v := (0 : Int32)) dX10_tries_212 rfl ?_
    refine r_istore (ls2 := [some (.ref 2759), none, none, some (.int x3), some (.int x4), some (.int x5), some (.int x6), some (.int x7), some (.int x8), some (.ref r1), some (.int v5), some (.int (0 : Int32)), none, none]) dX10_tries_213 (by decide) rfl ?_
    refine r_prune [true, false, false, true, true, true, true, true, false, true, true, true, false, false] (ls2 := [some (.ref 2759), none, none, some (.int x3), some (.int x4), some (.int x5), some (.int x6), some (.int x7), none, some (.ref r1), some (.int v5), some (.int (0 : Int32)), none, none]) rfl ?_
    exact H
  · replace H := H.2 cH
    refine r_iload dX10_tries_163 rfl ?_
    refine r_istore (ls2 := [some (.ref 2759), none, none, some (.int x3), some (.int x4), some (.int x5), some (.int x7), some (.int x7), some (.int x8), none, none, none, none, none]) dX10_tries_165 (by decide) rfl ?_
    refine r_goto (tgt := 333) dX10_tries_167 rfl ?_
    refine r_prune [true, false, false, true, true, true, true, true, false, false, false, false, false, false] (ls2 := [some (.ref 2759), none, none, some (.int x3), some (.int x4), some (.int x5), some (.int x7), some (.int x7), none, none, none, none, none, none]) rfl ?_
    exact H
theorem s_X10_tries_215 {g : GX} {d : Nat} {av : List Value} {Q : QT} {n : Nat} {h : Hp} {x3 : Int32} {x4 : Int32} {x5 : Int32} {x6 : Int32} {x7 : Int32} {a9 : Nat} {L9 : Nat} {x10 : Int32} {x11 : Int32} (hp : g.2.2.2.2 = true) (t9 : lay a9 = (1, L9, 0)) (H : ((x3 ≤ x11) → (W_X10_tries g d av Q n 245 [some (.ref 2759), none, none, some (.int x3), some (.int x4), some (.int x5), some (.int x6), some (.int x7), none, some (.ref a9), none, some (.int (0 : Int32)), none, none] [] h)) ∧ ((¬ x3 ≤ x11) → (vp_in x11 L9 ∧ (CallI g m_X10_mul d [.int (ri h a9 (x11).toNatClampNeg), .int x10] n h (fun v1 h1 => (vp_in x11 L9 ∧ ∀ h2, h2 = wi h1 a9 (x11).toNatClampNeg v1 → (W_X10_tries g d av Q n 215 [some (.ref 2759), none, none, some (.int x3), some (.int x4), some (.int x5), some (.int x6), some (.int x7), none, some (.ref a9), some (.int x10), some (.int (x11 + (1 : Int32))), none, none] [] h2))))))) : W_X10_tries g d av Q n 215 [some (.ref 2759), none, none, some (.int x3), some (.int x4), some (.int x5), some (.int x6), some (.int x7), none, some (.ref a9), some (.int x10), some (.int x11), none, none] [] h := by
  refine r_iload dX10_tries_215 rfl ?_
  refine r_iload_n dX10_tries_217 rfl rfl ?_
  refine r_icmp_ge (tgt := 242) dX10_tries_218 rfl (fun cH => ?_) (fun cH => ?_)
  · replace H := H.1 cH
    refine r_iconst (v := (0 : Int32)) dX10_tries_242 rfl ?_
    refine r_istore (ls2 := [some (.ref 2759), none, none, some (.int x3), some (.int x4), some (.int x5), some (.int x6), some (.int x7), none, some (.ref a9), some (.int x10), some (.int (0 : Int32)), none, none]) dX10_tries_243 (by decide) rfl ?_
    refine r_prune [true, false, false, true, true, true, true, true, false, true, false, true, false, false] (ls2 := [some (.ref 2759), none, none, some (.int x3), some (.int x4), some (.int x5), some (.int x6), some (.int x7), none, some (.ref a9), none, some (.int (0 : Int32)), none, none]) rfl ?_
    exact H
  · replace H := H.2 cH
    refine r_aload dX10_tries_221 rfl ?_
    refine r_iload dX10_tries_223 rfl ?_
    refine r_aload dX10_tries_225 rfl ?_
    refine r_iload dX10_tries_227 rfl ?_
    refine m_iald hp dX10_tries_229 t9 H.1 ?_
    replace H := H.2
    refine r_iload dX10_tries_230 rfl ?_
    refine k_SI (As := [.int (ri h a9 (x11).toNatClampNeg), .int x10]) (stk := [.int x11, .ref a9]) cs_X10_56 dX10_tries_232 rfl (Nat.le_of_ble_eq_true rfl) (H.mono (fun v1 h1 H => ?_)) ⟨Nat.le_refl _, Nat.le_refl _⟩
    refine m_iast hp dX10_tries_235 t9 H.1 (fun h2 eh2 => ?_)
    replace H := H.2 h2 eh2
    refine r_iinc (v := (x11 + (1 : Int32))) (ls2 := [some (.ref 2759), none, none, some (.int x3), some (.int x4), some (.int x5), some (.int x6), some (.int x7), none, some (.ref a9), some (.int x10), some (.int (x11 + (1 : Int32))), none, none]) dX10_tries_236 rfl rfl (by decide) rfl ?_
    refine r_goto (tgt := 215) dX10_tries_239 rfl ?_
    exact H
theorem s_X10_tries_245 {g : GX} {d : Nat} {av : List Value} {Q : QT} {n : Nat} {h : Hp} {x3 : Int32} {x4 : Int32} {x5 : Int32} {x6 : Int32} {x7 : Int32} {a9 : Nat} {L9 : Nat} {x11 : Int32} (hp : g.2.2.2.2 = true) (t9 : lay a9 = (1, L9, 0)) (H : ((x4 ≤ x11) → (W_X10_tries g d av Q n 333 [some (.ref 2759), none, none, some (.int x3), some (.int x4), some (.int (x5 + (1 : Int32))), some (.int x6), some (.int x7), none, none, none, none, none, none] [] h)) ∧ ((¬ x4 ≤ x11) → (vp_in x11 60 ∧ ∃ r1 Lr1, rr h 2971 (x11).toNatClampNeg = some r1 ∧ lay r1 = (1, Lr1, 0) ∧ (vp_in x7 Lr1 ∧ (W_X10_tries g d av Q n 267 [some (.ref 2759), none, none, some (.int x3), some (.int x4), some (.int x5), some (.int x6), some (.int x7), none, some (.ref a9), none, some (.int x11), some (.int (ri h r1 (x7).toNatClampNeg)), some (.int (0 : Int32))] [] h))))) : W_X10_tries g d av Q n 245 [some (.ref 2759), none, none, some (.int x3), some (.int x4), some (.int x5), some (.int x6), some (.int x7), none, some (.ref a9), none, some (.int x11), none, none] [] h := by
  refine r_iload dX10_tries_245 rfl ?_
  refine r_iload dX10_tries_247 rfl ?_
  refine r_icmp_ge (tgt := 330) dX10_tries_249 rfl (fun cH => ?_) (fun cH => ?_)
  · replace H := H.1 cH
    refine r_iinc (v := (x5 + (1 : Int32))) (ls2 := [some (.ref 2759), none, none, some (.int x3), some (.int x4), some (.int (x5 + (1 : Int32))), some (.int x6), some (.int x7), none, some (.ref a9), none, some (.int x11), none, none]) dX10_tries_330 rfl rfl (by decide) rfl ?_
    refine r_prune [true, false, false, true, true, true, true, true, false, false, false, false, false, false] (ls2 := [some (.ref 2759), none, none, some (.int x3), some (.int x4), some (.int (x5 + (1 : Int32))), some (.int x6), some (.int x7), none, none, none, none, none, none]) rfl ?_
    exact H
  · replace H := H.2 cH
    refine r_aload_n dX10_tries_252 rfl rfl ?_
    refine m_getF (x := 2971) hp fw_X10_532 dX10_tries_253 rfl ly_10 (ff_10_60 ly_10) ?_
    refine r_iload dX10_tries_256 rfl ?_
    have hir1 := H.1
    obtain ⟨r1, Lr1, er1, tr1, H⟩ := H.2
    refine m_aalM (x := r1) hp dX10_tries_258 (lf_10_60 ly_10) rfl rfl (lu_10_60 ly_10) hir1 er1 ?_
    refine r_iload dX10_tries_259 rfl ?_
    refine m_iald hp dX10_tries_261 tr1 H.1 ?_
    replace H := H.2
    refine r_istore (ls2 := [some (.ref 2759), none, none, some (.int x3), some (.int x4), some (.int x5), some (.int x6), some (.int x7), none, some (.ref a9), none, some (.int x11), some (.int (ri h r1 (x7).toNatClampNeg)), none]) dX10_tries_262 (by decide) rfl ?_
    refine r_iconst (v := (0 : Int32)) dX10_tries_264 rfl ?_
    refine r_istore (ls2 := [some (.ref 2759), none, none, some (.int x3), some (.int x4), some (.int x5), some (.int x6), some (.int x7), none, some (.ref a9), none, some (.int x11), some (.int (ri h r1 (x7).toNatClampNeg)), some (.int (0 : Int32))]) dX10_tries_265 (by decide) rfl ?_
    exact H
theorem s_X10_tries_267 {g : GX} {d : Nat} {av : List Value} {Q : QT} {n : Nat} {h : Hp} {x3 : Int32} {x4 : Int32} {x5 : Int32} {x6 : Int32} {x7 : Int32} {a9 : Nat} {L9 : Nat} {x11 : Int32} {x12 : Int32} {x13 : Int32} (hp : g.2.2.2.2 = true) (t9 : lay a9 = (1, L9, 0)) (H : ((x3 ≤ x13) → (W_X10_tries g d av Q n 324 [some (.ref 2759), none, none, some (.int x3), some (.int x4), some (.int x5), some (.int x6), some (.int x7), none, some (.ref a9), none, some (.int x11), none, none] [] h)) ∧ ((¬ x3 ≤ x13) → (((x11 = x5) → (W_X10_tries g d av Q n 324 [some (.ref 2759), none, none, some (.int x3), some (.int x4), some (.int x5), some (.int x6), some (.int x7), none, some (.ref a9), none, some (.int x11), none, none] [] h)) ∧ ((¬ x11 = x5) → (((x12 = (0 : Int32)) → (W_X10_tries g d av Q n 324 [some (.ref 2759), none, none, some (.int x3), some (.int x4), some (.int x5), some (.int x6), some (.int x7), none, some (.ref a9), none, some (.int x11), none, none] [] h)) ∧ ((¬ x12 = (0 : Int32)) → (vp_in x11 60 ∧ ∃ r1 Lr1, rr h 2971 (x11).toNatClampNeg = some r1 ∧ lay r1 = (1, Lr1, 0) ∧ (vp_in x11 60 ∧ ∃ r2 Lr2, rr h 2971 (x11).toNatClampNeg = some r2 ∧ lay r2 = (1, Lr2, 0) ∧ (vp_in x13 Lr2 ∧ (vp_in x13 L9 ∧ (CallI g m_X10_mul d [.int x12, .int (ri h a9 (x13).toNatClampNeg)] n h (fun v3 h3 => (CallI g m_X10_sub d [.int (ri h r2 (x13).toNatClampNeg), .int v3] n h3 (fun v4 h4 => (vp_in x13 Lr1 ∧ ∀ h5, h5 = wi h4 r1 (x13).toNatClampNeg v4 → (W_X10_tries g d av Q n 267 [some (.ref 2759), none, none, some (.int x3), some (.int x4), some (.int x5), some (.int x6), some (.int x7), none, some (.ref a9), none, some (.int x11), some (.int x12), some (.int (x13 + (1 : Int32)))] [] h5)))))))))))))))) : W_X10_tries g d av Q n 267 [some (.ref 2759), none, none, some (.int x3), some (.int x4), some (.int x5), some (.int x6), some (.int x7), none, some (.ref a9), none, some (.int x11), some (.int x12), some (.int x13)] [] h := by
  refine r_iload dX10_tries_267 rfl ?_
  refine r_iload_n dX10_tries_269 rfl rfl ?_
  refine r_icmp_ge (tgt := 324) dX10_tries_270 rfl (fun cH => ?_) (fun cH => ?_)
  · replace H := H.1 cH
    refine r_prune [true, false, false, true, true, true, true, true, false, true, false, true, false, false] (ls2 := [some (.ref 2759), none, none, some (.int x3), some (.int x4), some (.int x5), some (.int x6), some (.int x7), none, some (.ref a9), none, some (.int x11), none, none]) rfl ?_
    exact H
  · replace H := H.2 cH
    refine r_iload dX10_tries_273 rfl ?_
    refine r_iload dX10_tries_275 rfl ?_
    refine r_icmp_eq (tgt := 324) dX10_tries_277 rfl (fun cH => ?_) (fun cH => ?_)
    · replace H := H.1 cH
      refine r_prune [true, false, false, true, true, true, true, true, false, true, false, true, false, false] (ls2 := [some (.ref 2759), none, none, some (.int x3), some (.int x4), some (.int x5), some (.int x6), some (.int x7), none, some (.ref a9), none, some (.int x11), none, none]) rfl ?_
      exact H
    · replace H := H.2 cH
      refine r_iload dX10_tries_280 rfl ?_
      refine r_if_eq (tgt := 324) dX10_tries_282 rfl (fun cH => ?_) (fun cH => ?_)
      · replace H := H.1 cH
        refine r_prune [true, false, false, true, true, true, true, true, false, true, false, true, false, false] (ls2 := [some (.ref 2759), none, none, some (.int x3), some (.int x4), some (.int x5), some (.int x6), some (.int x7), none, some (.ref a9), none, some (.int x11), none, none]) rfl ?_
        exact H
      · replace H := H.2 cH
        refine r_aload_n dX10_tries_285 rfl rfl ?_
        refine m_getF (x := 2971) hp fw_X10_532 dX10_tries_286 rfl ly_10 (ff_10_60 ly_10) ?_
        refine r_iload dX10_tries_289 rfl ?_
        have hir1 := H.1
        obtain ⟨r1, Lr1, er1, tr1, H⟩ := H.2
        refine m_aalM (x := r1) hp dX10_tries_291 (lf_10_60 ly_10) rfl rfl (lu_10_60 ly_10) hir1 er1 ?_
        refine r_iload dX10_tries_292 rfl ?_
        refine r_aload_n dX10_tries_294 rfl rfl ?_
        refine m_getF (x := 2971) hp fw_X10_532 dX10_tries_295 rfl ly_10 (ff_10_60 ly_10) ?_
        refine r_iload dX10_tries_298 rfl ?_
        have hir2 := H.1
        obtain ⟨r2, Lr2, er2, tr2, H⟩ := H.2
        refine m_aalM (x := r2) hp dX10_tries_300 (lf_10_60 ly_10) rfl rfl (lu_10_60 ly_10) hir2 er2 ?_
        refine r_iload dX10_tries_301 rfl ?_
        refine m_iald hp dX10_tries_303 tr2 H.1 ?_
        replace H := H.2
        refine r_iload dX10_tries_304 rfl ?_
        refine r_aload dX10_tries_306 rfl ?_
        refine r_iload dX10_tries_308 rfl ?_
        refine m_iald hp dX10_tries_310 t9 H.1 ?_
        replace H := H.2
        refine k_SI (As := [.int x12, .int (ri h a9 (x13).toNatClampNeg)]) (stk := [.int (ri h r2 (x13).toNatClampNeg), .int x13, .ref r1]) cs_X10_56 dX10_tries_311 rfl (Nat.le_of_ble_eq_true rfl) (H.mono (fun v3 h3 H => ?_)) ⟨Nat.le_refl _, Nat.le_refl _⟩
        refine k_SI (As := [.int (ri h r2 (x13).toNatClampNeg), .int v3]) (stk := [.int x13, .ref r1]) cs_X10_46 dX10_tries_314 rfl (Nat.le_of_ble_eq_true rfl) (H.mono (fun v4 h4 H => ?_)) ⟨Nat.le_refl _, Nat.le_refl _⟩
        refine m_iast hp dX10_tries_317 tr1 H.1 (fun h5 eh5 => ?_)
        replace H := H.2 h5 eh5
        refine r_iinc (v := (x13 + (1 : Int32))) (ls2 := [some (.ref 2759), none, none, some (.int x3), some (.int x4), some (.int x5), some (.int x6), some (.int x7), none, some (.ref a9), none, some (.int x11), some (.int x12), some (.int (x13 + (1 : Int32)))]) dX10_tries_318 rfl rfl (by decide) rfl ?_
        refine r_goto (tgt := 267) dX10_tries_321 rfl ?_
        exact H
theorem s_X10_tries_324 {g : GX} {d : Nat} {av : List Value} {Q : QT} {n : Nat} {h : Hp} {x3 : Int32} {x4 : Int32} {x5 : Int32} {x6 : Int32} {x7 : Int32} {a9 : Nat} {L9 : Nat} {x11 : Int32} (hp : g.2.2.2.2 = true) (t9 : lay a9 = (1, L9, 0)) (H : W_X10_tries g d av Q n 245 [some (.ref 2759), none, none, some (.int x3), some (.int x4), some (.int x5), some (.int x6), some (.int x7), none, some (.ref a9), none, some (.int (x11 + (1 : Int32))), none, none] [] h) : W_X10_tries g d av Q n 324 [some (.ref 2759), none, none, some (.int x3), some (.int x4), some (.int x5), some (.int x6), some (.int x7), none, some (.ref a9), none, some (.int x11), none, none] [] h := by
  refine r_iinc (v := (x11 + (1 : Int32))) (ls2 := [some (.ref 2759), none, none, some (.int x3), some (.int x4), some (.int x5), some (.int x6), some (.int x7), none, some (.ref a9), none, some (.int (x11 + (1 : Int32))), none, none]) dX10_tries_324 rfl rfl (by decide) rfl ?_
  refine r_goto (tgt := 245) dX10_tries_327 rfl ?_
  exact H
theorem s_X10_tries_333 {g : GX} {d : Nat} {av : List Value} {Q : QT} {n : Nat} {h : Hp} {x3 : Int32} {x4 : Int32} {x5 : Int32} {x6 : Int32} {x7 : Int32} (hp : g.2.2.2.2 = true)  (H : W_X10_tries g d av Q n 115 [some (.ref 2759), none, none, some (.int x3), some (.int x4), some (.int x5), some (.int x6), some (.int (x7 + (1 : Int32))), none, none, none, none, none, none] [] h) : W_X10_tries g d av Q n 333 [some (.ref 2759), none, none, some (.int x3), some (.int x4), some (.int x5), some (.int x6), some (.int x7), none, none, none, none, none, none] [] h := by
  refine r_iinc (v := (x7 + (1 : Int32))) (ls2 := [some (.ref 2759), none, none, some (.int x3), some (.int x4), some (.int x5), some (.int x6), some (.int (x7 + (1 : Int32))), none, none, none, none, none, none]) dX10_tries_333 rfl rfl (by decide) rfl ?_
  refine r_goto (tgt := 115) dX10_tries_336 rfl ?_
  exact H
theorem s_X10_tries_339 {g : GX} {d : Nat} {av : List Value} {Q : QT} {n : Nat} {h : Hp} {x3 : Int32} {x6 : Int32} (hp : g.2.2.2.2 = true)  (H : W_X10_tries g d av Q n 342 [some (.ref 2759), none, none, some (.int x3), none, none, some (.int x6), some (.int (0 : Int32)), none, none, none, none, none, none] [] h) : W_X10_tries g d av Q n 339 [some (.ref 2759), none, none, some (.int x3), none, none, some (.int x6), none, none, none, none, none, none, none] [] h := by
  refine r_iconst (v := (0 : Int32)) dX10_tries_339 rfl ?_
  refine r_istore (ls2 := [some (.ref 2759), none, none, some (.int x3), none, none, some (.int x6), some (.int (0 : Int32)), none, none, none, none, none, none]) dX10_tries_340 (by decide) rfl ?_
  exact H
theorem s_X10_tries_342 {g : GX} {d : Nat} {av : List Value} {Q : QT} {n : Nat} {h : Hp} {x3 : Int32} {x6 : Int32} {x7 : Int32} (hp : g.2.2.2.2 = true)  (H : ((x3 ≤ x7) → (W_X10_tries g d av Q n 402 [none, none, none, none, none, none, some (.int x6), none, none, none, none, none, none, none] [] h)) ∧ ((¬ x3 ≤ x7) → (((x6 < (0 : Int32)) → (W_X10_tries g d av Q n 402 [none, none, none, none, none, none, some (.int x6), none, none, none, none, none, none, none] [] h)) ∧ ((¬ x6 < (0 : Int32)) → (((x6 ≤ x7) → (((¬ x7 = x6) → (W_X10_tries g d av Q n 395 [some (.ref 2759), none, none, some (.int x3), none, none, some (.int x6), some (.int x7), none, none, none, none, none, none] [.int (0 : Int32), .int x7, .ref 3032] h)) ∧ ((x7 = x6) → (W_X10_tries g d av Q n 395 [some (.ref 2759), none, none, some (.int x3), none, none, some (.int x6), some (.int x7), none, none, none, none, none, none] [.int (1 : Int32), .int x7, .ref 3032] h)))) ∧ ((¬ x6 ≤ x7) → (vp_in x7 60 ∧ ∃ r1 Lr1, rr h 2971 (x7).toNatClampNeg = some r1 ∧ lay r1 = (1, Lr1, 0) ∧ (vp_in x6 Lr1 ∧ (CallI g m_X10_sub d [.int (0 : Int32), .int (ri h r1 (x6).toNatClampNeg)] n h (fun v2 h2 => (W_X10_tries g d av Q n 395 [some (.ref 2759), none, none, some (.int x3), none, none, some (.int x6), some (.int x7), none, none, none, none, none, none] [.int v2, .int x7, .ref 3032] h2))))))))))) : W_X10_tries g d av Q n 342 [some (.ref 2759), none, none, some (.int x3), none, none, some (.int x6), some (.int x7), none, none, none, none, none, none] [] h := by
  refine r_iload dX10_tries_342 rfl ?_
  refine r_iload_n dX10_tries_344 rfl rfl ?_
  refine r_icmp_ge (tgt := 402) dX10_tries_345 rfl (fun cH => ?_) (fun cH => ?_)
  · replace H := H.1 cH
    refine r_prune [false, false, false, false, false, false, true, false, false, false, false, false, false, false] (ls2 := [none, none, none, none, none, none, some (.int x6), none, none, none, none, none, none, none]) rfl ?_
    exact H
  · replace H := H.2 cH
    refine r_iload dX10_tries_348 rfl ?_
    refine r_if_lt (tgt := 402) dX10_tries_350 rfl (fun cH => ?_) (fun cH => ?_)
    · replace H := H.1 cH
      refine r_prune [false, false, false, false, false, false, true, false, false, false, false, false, false, false] (ls2 := [none, none, none, none, none, none, some (.int x6), none, none, none, none, none, none, none]) rfl ?_
      exact H
    · replace H := H.2 cH
      refine r_aload_n dX10_tries_353 rfl rfl ?_
      refine m_getF (x := 3032) hp fw_X10_535 dX10_tries_354 rfl ly_10 (ff_10_61 ly_10) ?_
      refine r_iload dX10_tries_357 rfl ?_
      refine r_iload dX10_tries_359 rfl ?_
      refine r_iload dX10_tries_361 rfl ?_
      refine r_icmp_ge (tgt := 383) dX10_tries_363 rfl (fun cH => ?_) (fun cH => ?_)
      · replace H := H.1 cH
        refine r_iload dX10_tries_383 rfl ?_
        refine r_iload dX10_tries_385 rfl ?_
        refine r_icmp_ne (tgt := 394) dX10_tries_387 rfl (fun cH => ?_) (fun cH => ?_)
        · replace H := H.1 cH
          refine r_iconst (v := (0 : Int32)) dX10_tries_394 rfl ?_
          exact H
        · replace H := H.2 cH
          refine r_iconst (v := (1 : Int32)) dX10_tries_390 rfl ?_
          refine r_goto (tgt := 395) dX10_tries_391 rfl ?_
          exact H
      · replace H := H.2 cH
        refine r_iconst (v := (0 : Int32)) dX10_tries_366 rfl ?_
        refine r_aload_n dX10_tries_367 rfl rfl ?_
        refine m_getF (x := 2971) hp fw_X10_532 dX10_tries_368 rfl ly_10 (ff_10_60 ly_10) ?_
        refine r_iload dX10_tries_371 rfl ?_
        have hir1 := H.1
        obtain ⟨r1, Lr1, er1, tr1, H⟩ := H.2
        refine m_aalM (x := r1) hp dX10_tries_373 (lf_10_60 ly_10) rfl rfl (lu_10_60 ly_10) hir1 er1 ?_
        refine r_iload dX10_tries_374 rfl ?_
        refine m_iald hp dX10_tries_376 tr1 H.1 ?_
        replace H := H.2
        refine k_SI (As := [.int (0 : Int32), .int (ri h r1 (x6).toNatClampNeg)]) (stk := [.int x7, .ref 3032]) cs_X10_46 dX10_tries_377 rfl (Nat.le_of_ble_eq_true rfl) (H.mono (fun v2 h2 H => ?_)) ⟨Nat.le_refl _, Nat.le_refl _⟩
        refine r_goto (tgt := 395) dX10_tries_380 rfl ?_
        exact H
theorem s_X10_tries_395 {g : GX} {d : Nat} {av : List Value} {Q : QT} {n : Nat} {h : Hp} {x3 : Int32} {x6 : Int32} {x7 : Int32} {xs0 : Int32} {xs1 : Int32} {as2 : Nat} {Ls2 : Nat} (hp : g.2.2.2.2 = true) (ts2 : lay as2 = (1, Ls2, 0)) (H : vp_in xs1 Ls2 ∧ ∀ h1, h1 = wi h as2 (xs1).toNatClampNeg xs0 → (W_X10_tries g d av Q n 342 [some (.ref 2759), none, none, some (.int x3), none, none, some (.int x6), some (.int (x7 + (1 : Int32))), none, none, none, none, none, none] [] h1)) : W_X10_tries g d av Q n 395 [some (.ref 2759), none, none, some (.int x3), none, none, some (.int x6), some (.int x7), none, none, none, none, none, none] [.int xs0, .int xs1, .ref as2] h := by
  refine m_iast hp dX10_tries_395 ts2 H.1 (fun h1 eh1 => ?_)
  replace H := H.2 h1 eh1
  refine r_iinc (v := (x7 + (1 : Int32))) (ls2 := [some (.ref 2759), none, none, some (.int x3), none, none, some (.int x6), some (.int (x7 + (1 : Int32))), none, none, none, none, none, none]) dX10_tries_396 rfl rfl (by decide) rfl ?_
  refine r_goto (tgt := 342) dX10_tries_399 rfl ?_
  exact H
theorem s_X10_tries_402 {g : GX} {d : Nat} {av : List Value} {Q : QT} {n : Nat} {h : Hp} {x6 : Int32} (hp : g.2.2.2.2 = true)  (H : ((x6 < (0 : Int32)) → (Q (some (.int (0 : Int32))) n h)) ∧ ((¬ x6 < (0 : Int32)) → (Q (some (.int (1 : Int32))) n h))) : W_X10_tries g d av Q n 402 [none, none, none, none, none, none, some (.int x6), none, none, none, none, none, none, none] [] h := by
  refine r_iload dX10_tries_402 rfl ?_
  refine r_if_lt (tgt := 411) dX10_tries_404 rfl (fun cH => ?_) (fun cH => ?_)
  · replace H := H.1 cH
    refine r_iconst (v := (0 : Int32)) dX10_tries_411 rfl ?_
    exact r_zret dX10_tries_412 rfl rfl (Nat.le_refl _) (Nat.le_refl _) H
  · replace H := H.2 cH
    refine r_iconst (v := (1 : Int32)) dX10_tries_407 rfl ?_
    refine r_goto (tgt := 412) dX10_tries_408 rfl ?_
    exact r_zret dX10_tries_412 rfl rfl (Nat.le_refl _) (Nat.le_refl _) H
