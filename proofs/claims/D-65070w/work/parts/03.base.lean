set_option maxRecDepth 100000
/-! THE LAYER: a heap as two functions (ints, references) over a fixed layout; a judgement RJ over the kit's W; a call's judgement CallN over Met -/
abbrev Hp : Type := (Nat → Nat → Int32) × (Nat → Nat → Option Nat)
abbrev CT : Type := Nat × Nat × Nat
abbrev Mth : Type := MethodName × ByteArray × Nat × Option FieldType
abbrev GX : Type := Launch × va_G × (Nat → ClassId) × Nat × Bool
abbrev LV : Type := List (Option Value)
abbrev QT : Type := Option Value → Nat → Hp → Prop
def ri (h : Hp) (a k : Nat) : Int32 := h.1 a k
def rr (h : Hp) (a k : Nat) : Option Nat := h.2 a k
def wi (h : Hp) (a k : Nat) (v : Int32) : Hp := (fun x y => if x = a ∧ y = k then v else h.1 x y, h.2)
def wr (h : Hp) (a k : Nat) (v : Option Nat) : Hp := (h.1, fun x y => if x = a ∧ y = k then v else h.2 x y)
def jcl : List vw_C := [(RX0, TX0, 80), (RX1, TX1, 20), (RX2, TX2, 3), (RX3, TX3, 2), (RX4, TX4, 4), (RX5, TX5, 8), (RX6, TX6, 2), (RX7, TX7, 9), (RX8, TX8, 7), (RX9, TX9, 8), (RX10, TX10, 65), (RX11, TX11, 15), (RX12, TX12, 6), (RX13, TX13, 2), (RX14, TX14, 2)]
def jtyl : List (Nat → FieldType) := [tyX0, tyX1, tyX2, tyX3, tyX4, tyX5, tyX6, tyX7, tyX8, tyX9, tyX10, tyX11, tyX12, tyX13, tyX14]
def jty (ci k : Nat) : FieldType := (jtyl.getD ci tyX0) k
def jrf (ci k : Nat) : Bool := match jty ci k with
  | .object _ => true
  | .array _ => true
  | _ => false
/-- what stands behind the kit's names of array kinds -/
def jat : List FieldType := [.int, .byte, .boolean, .object RX3, .object RX5, .object RX9, .object RX4, .object RX6, .array .int, .array (.object RX3), .object RX13, .object RX14, .object RX11, .array (.object RX13)]
def jtys (cA : Nat → ClassId) : List (ClassId × FieldType) := (List.range 14).map (fun j => (cA j, jat.getD j .int))
def sh (b : Nat) (r : Option Nat) : Option Nat := r.map (fun x => b + x)
def fv (b ci k : Nat) (m : Int32) (r : Option Nat) : Value := if jrf ci k then va_rf (sh b r) else .int m
def ce (b : Nat) (cA : Nat → ClassId) (t : CT) (m : Nat → Int32) (r : Nat → Option Nat) : va_E := match t with
  | (0, ci, nf) => .inr (ci, (List.range nf).map (fun k => fv b ci k (m k) (r k)))
  | (1, L, j) => .inl (cA j, L, .inl m)
  | (_, L, j) => .inl (cA j, L, .inr (.inr (.inr (.inr (fun i => sh b (r i))))))
def wl (b n : Nat) : List Nat := (List.range n).map (fun x => b + x)
def layB : List CT := (0, 14, 2) :: (2, 64, 10) :: (List.replicate 64 [((0, 13, 2) : CT), (1, 200, 0)]).flatten
/-- cells: times and pattern, in the order in which the constructors make them -/
def laySegs : List (Nat × List CT) := [(1, [(0, 0, 80)]), (1, [(0, 1, 20)]), (1, [(0, 2, 3), (0, 3, 2), (1, 1800, 0), (0, 3, 2), (1, 1800, 0), (0, 3, 2), (1, 1800, 0)]), (1, [(0, 3, 2), (1, 1800, 0)]), (1, [(0, 3, 2), (1, 1800, 0)]), (1, [(0, 3, 2), (1, 1800, 0)]), (1, [(0, 3, 2), (1, 1800, 0)]), (1, [(0, 3, 2), (1, 1800, 0)]), (1, [(0, 3, 2), (1, 1800, 0)]), (1, [(0, 3, 2), (1, 1800, 0)]), (1, [(0, 4, 4), (1, 135000, 0)]), (1, [(0, 4, 4), (1, 135000, 0)]), (1, [(0, 4, 4), (1, 135000, 0)]), (1, [(0, 4, 4), (1, 135000, 0)]), (1, [(0, 4, 4), (1, 135000, 0)]), (1, [(0, 4, 4), (1, 135000, 0)]), (1, [(1, 2000, 0)]), (1, [(1, 300000, 0)]), (1, [(1, 2000, 0)]), (1, [(1, 2000, 0)]), (1, [(0, 4, 4), (1, 135000, 0)]), (1, [(0, 4, 4), (1, 135000, 0)]), (1, [(0, 4, 4), (1, 135000, 0)]), (1, [(0, 4, 4), (1, 135000, 0)]), (1, [(0, 5, 8), (0, 6, 2), (0, 4, 4), (1, 325, 0), (0, 4, 4), (1, 325, 0), (1, 60, 0), (1, 60, 0), (1, 60, 0), (1, 60, 0)]), (1, [(0, 5, 8), (0, 6, 2), (0, 4, 4), (1, 325, 0), (0, 4, 4), (1, 325, 0), (1, 60, 0), (1, 60, 0), (1, 60, 0), (1, 60, 0)]), (1, [(0, 5, 8), (0, 6, 2), (0, 4, 4), (1, 325, 0), (0, 4, 4), (1, 325, 0), (1, 60, 0), (1, 60, 0), (1, 60, 0), (1, 60, 0)]), (1, [(1, 400, 1)]), (1, [(2, 100, 4)]), (1, [(2, 12, 5)]), (1, [(0, 5, 8), (0, 6, 2), (0, 4, 4), (1, 325, 0), (0, 4, 4), (1, 325, 0), (1, 60, 0), (1, 60, 0), (1, 60, 0), (1, 60, 0)]), (1, [(1, 4000, 1)]), (1, [(1, 4000, 1)]), (1, [(1, 3200, 0)]), (1, [(0, 4, 4), (1, 135000, 0)]), (1, [(0, 4, 4), (1, 135000, 0)]), (1, [(0, 4, 4), (1, 135000, 0)]), (1, [(0, 4, 4), (1, 135000, 0)]), (1, [(0, 4, 4), (1, 135000, 0)]), (1, [(0, 3, 2), (1, 1800, 0)]), (1, [(0, 3, 2), (1, 1800, 0)]), (1, [(0, 3, 2), (1, 1800, 0)]), (1, [(0, 3, 2), (1, 1800, 0)]), (1, [(0, 3, 2), (1, 1800, 0)]), (1, [(0, 7, 9)]), (1, [(2, 24, 9)]), (24, [(2, 14, 3)]), (1, [(0, 3, 2), (1, 2600, 0)]), (1, [(0, 3, 2), (1, 2600, 0)]), (1, [(0, 3, 2), (1, 1300, 0)]), (1, [(1, 14, 0)]), (336, [(0, 3, 2), (1, 1300, 0)]), (1, [(2, 4, 6)]), (1, [(0, 4, 4), (1, 135000, 0)]), (1, [(0, 4, 4), (1, 135000, 0)]), (1, [(0, 4, 4), (1, 31200, 0)]), (1, [(0, 4, 4), (1, 195000, 0)]), (1, [(2, 4, 3)]), (1, [(0, 3, 2), (1, 1800, 0)]), (1, [(0, 3, 2), (1, 1800, 0)]), (1, [(0, 3, 2), (1, 1800, 0)]), (1, [(0, 3, 2), (1, 2, 0)]), (1, [(0, 4, 4), (1, 4, 0)]), (1, [(2, 4, 7)]), (1, [(0, 6, 2), (0, 4, 4), (1, 325, 0), (0, 4, 4), (1, 325, 0)]), (1, [(0, 4, 4), (1, 135000, 0)]), (1, [(2, 4, 3)]), (1, [(0, 3, 2), (1, 1800, 0)]), (1, [(2, 6, 6)]), (1, [(2, 6, 6)]), (1, [(2, 6, 3)]), (1, [(2, 6, 3)]), (1, [(1, 6, 0)]), (1, [(1, 6, 0)]), (1, [(2, 8, 3)]), (1, [(0, 8, 7)]), (1, [(2, 7, 9)]), (7, [(2, 6, 3)]), (1, [(2, 7, 3)]), (1, [(2, 7, 3)]), (1, [(0, 3, 2), (1, 1300, 0)]), (1, [(0, 3, 2), (1, 2600, 0)]), (7, [(0, 3, 2), (1, 600, 0), (0, 3, 2), (1, 100, 0), (0, 3, 2), (1, 600, 0), (0, 3, 2), (1, 600, 0), (0, 3, 2), (1, 600, 0), (0, 3, 2), (1, 600, 0), (0, 3, 2), (1, 600, 0), (0, 3, 2), (1, 600, 0)]), (1, [(0, 8, 7)]), (1, [(2, 7, 9)]), (7, [(2, 6, 3)]), (1, [(2, 7, 3)]), (1, [(2, 7, 3)]), (1, [(0, 3, 2), (1, 1300, 0)]), (1, [(0, 3, 2), (1, 2600, 0)]), (7, [(0, 3, 2), (1, 600, 0), (0, 3, 2), (1, 100, 0), (0, 3, 2), (1, 600, 0), (0, 3, 2), (1, 600, 0), (0, 3, 2), (1, 600, 0), (0, 3, 2), (1, 600, 0), (0, 3, 2), (1, 600, 0), (0, 3, 2), (1, 600, 0)]), (1, [(2, 7, 3)]), (1, [(1, 60, 0)]), (1, [(0, 3, 2), (1, 1800, 0)]), (1, [(1, 60, 0)]), (1, [(2, 60, 8)]), (60, [(1, 45, 0)]), (1, [(1, 45, 0)]), (1, [(1, 24, 0)]), (1, [(0, 3, 2), (1, 1800, 0)]), (1, [(0, 3, 2), (1, 1800, 0)]), (1, [(2, 64, 3)]), (1, [(1, 2000, 0)]), (1, [(1, 2000, 0)]), (12, [(0, 9, 8), (0, 5, 8), (0, 6, 2), (0, 4, 4), (1, 325, 0), (0, 4, 4), (1, 325, 0), (1, 60, 0), (1, 60, 0), (1, 60, 0), (1, 60, 0), (2, 7, 3), (1, 301, 0), (0, 3, 2), (1, 50, 0), (0, 3, 2), (1, 50, 0), (0, 3, 2), (1, 50, 0), (0, 3, 2), (1, 50, 0), (0, 3, 2), (1, 50, 0), (0, 3, 2), (1, 50, 0), (0, 3, 2), (1, 50, 0)]), (100, [(0, 5, 8), (0, 6, 2), (0, 4, 4), (1, 325, 0), (0, 4, 4), (1, 325, 0), (1, 60, 0), (1, 60, 0), (1, 60, 0), (1, 60, 0)]), (4, [(0, 4, 4), (1, 3200, 0), (0, 3, 2), (1, 1800, 0), (0, 6, 2), (0, 4, 4), (1, 325, 0), (0, 4, 4), (1, 325, 0), (0, 3, 2), (1, 1800, 0)]), (6, [(0, 4, 4), (1, 7800, 0), (0, 4, 4), (1, 7800, 0), (0, 3, 2), (1, 60, 0), (0, 3, 2), (1, 60, 0)]), (8, [(0, 3, 2), (1, 1800, 0)]), (7, [(0, 3, 2), (1, 1300, 0)]), (64, [(0, 3, 2), (1, 26, 0)]), (1, [(0, 10, 65)]), (1, [(2, 160, 10)]), (1, [(2, 44, 11)]), (1, [(1, 700, 0)]), (1, [(2, 64, 8)]), (64, [(1, 700, 0)]), (1, [(0, 11, 15), (1, 325, 0), (1, 325, 0), (1, 13, 0), (1, 13, 0), (1, 13, 0), (1, 13, 0), (1, 175, 0), (1, 361, 0)]), (1, [(1, 13, 2)]), (1, [(0, 12, 6)]), (1, [(1, 400, 1)]), (1, [(2, 130, 12)]), (1, [(2, 12, 12)]), (1, [(0, 11, 15), (1, 325, 0), (1, 325, 0), (1, 13, 0), (1, 13, 0), (1, 13, 0), (1, 13, 0), (1, 175, 0), (1, 361, 0)]), (1, [(1, 4000, 1)]), (1, [(1, 4000, 1)]), (1, [(1, 60, 0)]), (1, [(1, 30, 0)]), (1, [(1, 120, 0)]), (1, [(1, 120, 0)]), (1, [(1, 120, 0)]), (1, [(1, 120, 0)]), (1, [(2, 48, 8)]), (48, [(1, 48, 0)]), (1, [(2, 26, 13)]), (26, [(2, 14, 10)]), (1, [(2, 14, 10)]), (1, [(1, 14, 2)]), (1, [(1, 14, 0)]), (1, [(2, 4, 11)]), (1, [(2, 4, 10)]), (1, [(2, 4, 8)]), (4, [(1, 325, 0)]), (1, [(2, 4, 8)]), (4, [(1, 325, 0)]), (1, [(2, 4, 11)]), (1, [(2, 4, 11)]), (1, [(2, 8, 10)]), (1, [(2, 7, 13)]), (7, [(2, 6, 10)]), (1, [(2, 7, 13)]), (7, [(2, 6, 10)]), (1, [(2, 7, 10)]), (1, [(2, 7, 10)]), (1, [(2, 60, 8)]), (60, [(1, 46, 0)]), (1, [(1, 46, 0)]), (1, [(1, 30, 0)]), (1, [(1, 101, 0)]), (160, [(0, 13, 2), (1, 1000, 0)]), (44, layB), (130, [(0, 11, 15), (1, 325, 0), (1, 325, 0), (1, 13, 0), (1, 13, 0), (1, 13, 0), (1, 13, 0), (1, 175, 0), (1, 361, 0)]), (12, [(0, 11, 15), (1, 325, 0), (1, 325, 0), (1, 13, 0), (1, 13, 0), (1, 13, 0), (1, 13, 0), (1, 175, 0), (1, 361, 0)]), (364, [(0, 13, 2), (1, 1000, 0)])]
def layGo : List (Nat × List CT) → Nat → CT
  | [], _ => (2, 4, 10)
  | (t, p) :: r, a => if a < t * p.length then p.getD (a % p.length) (9, 0, 0) else layGo r (a - t * p.length)
def N0 : Nat := 11081
def lay (a : Nat) : CT := if a < N0 then layGo laySegs a else (2, 4, 10)
/-- references that stay, of objects: field, distance -/
def finC (ci : Nat) : List (Nat × Nat) := match ci with
  | 0 => [(0, 1), (1, 39), (2, 41), (3, 43), (4, 45), (5, 47), (6, 57), (7, 67), (11, 77), (18, 78), (20, 79), (21, 80), (22, 90), (24, 91), (26, 92), (27, 93), (28, 95), (29, 97), (30, 99), (31, 101), (32, 103), (33, 105), (34, 107), (35, 109), (36, 111), (37, 113), (38, 818), (39, 819), (40, 821), (41, 823), (42, 825), (43, 827), (44, 828), (45, 830), (46, 832), (48, 834), (49, 836), (50, 838), (51, 839), (52, 844), (53, 846), (54, 847), (55, 849), (56, 850), (57, 851), (58, 852), (59, 853), (60, 854), (61, 855), (63, 856), (64, 983), (65, 1110), (66, 1111), (67, 1112), (68, 1114), (70, 1115), (71, 1176), (72, 1177), (74, 1178), (75, 1180), (76, 1182), (78, 1183), (79, 1184)]
  | 1 => [(0, 1), (1, 8), (2, 10), (3, 12), (4, 14), (5, 16), (6, 18), (7, 20), (8, 22), (9, 24), (10, 26), (11, 28), (12, 30), (13, 32), (14, 34), (15, 35), (16, 36), (17, 37)]
  | 2 => [(0, 1), (1, 3), (2, 5)]
  | 3 => [(0, 1)]
  | 4 => [(1, 1)]
  | 5 => [(0, 1), (4, 6), (5, 7), (6, 8), (7, 9)]
  | 6 => [(0, 1), (1, 3)]
  | 7 => [(1, 1), (2, 26), (3, 28), (4, 30), (7, 32)]
  | 8 => [(0, 1), (1, 9), (2, 10), (3, 11), (5, 13)]
  | 9 => [(1, 1), (2, 11), (6, 12)]
  | 10 => [(0, 1), (2, 2), (4, 3), (5, 4), (6, 69), (7, 78), (8, 79), (11, 80), (15, 81), (20, 82), (21, 83), (23, 92), (26, 93), (28, 94), (30, 95), (32, 96), (33, 97), (34, 98), (35, 99), (38, 100), (44, 149), (45, 176), (46, 177), (47, 178), (49, 179), (50, 180), (51, 181), (52, 186), (53, 191), (54, 192), (55, 193), (56, 194), (57, 202), (58, 210), (59, 211), (60, 212), (61, 273), (62, 274), (64, 275)]
  | 11 => [(1, 1), (2, 2), (6, 3), (7, 4), (8, 5), (9, 6), (11, 7), (14, 8)]
  | 12 => []
  | 13 => [(0, 1)]
  | 14 => [(0, 1)]
  | _ => []
/-- of arrays: first array, how many, distance of arrays, first element, its distance by array, by place, length -/
def finA : List (Nat × Nat × Nat × Nat × Nat × Nat × Nat) := [(78, 1, 1, 1509, 0, 10, 100), (79, 1, 1, 1185, 0, 27, 12), (818, 1, 1, 2509, 0, 11, 4), (827, 1, 1, 2511, 0, 11, 4), (838, 1, 1, 2513, 0, 11, 4), (846, 1, 1, 2518, 0, 11, 4), (849, 1, 1, 2553, 0, 8, 6), (850, 1, 1, 2555, 0, 8, 6), (851, 1, 1, 2557, 0, 8, 6), (852, 1, 1, 2559, 0, 8, 6), (855, 1, 1, 2601, 0, 2, 8), (1110, 1, 1, 2617, 0, 2, 7), (1182, 1, 1, 2631, 0, 2, 64), (115, 24, 1, 146, 28, 2, 14), (857, 1, 1, 858, 0, 1, 7), (858, 7, 1, 875, 16, 2, 6), (865, 1, 1, 871, 0, 16, 7), (866, 1, 1, 873, 0, 16, 7), (984, 1, 1, 985, 0, 1, 7), (985, 7, 1, 1002, 16, 2, 6), (992, 1, 1, 998, 0, 16, 7), (993, 1, 1, 1000, 0, 16, 7), (2760, 1, 1, 3035, 0, 2, 160), (2761, 1, 1, 3355, 0, 130, 44), (2840, 1, 1, 9075, 0, 9, 130), (2841, 1, 1, 10245, 0, 9, 12), (2763, 1, 1, 2764, 0, 1, 64), (2940, 1, 1, 2941, 0, 1, 4), (2945, 1, 1, 2946, 0, 1, 4), (2953, 1, 1, 2954, 0, 1, 7), (2961, 1, 1, 2962, 0, 1, 7), (2909, 26, 1, 10353, 28, 2, 14)]
def finAGo : List (Nat × Nat × Nat × Nat × Nat × Nat × Nat) → Nat → Nat → Option Nat
  | [], _, _ => none
  | (lo, m, rs, bs, s1, s2, L) :: r, a, k => if lo ≤ a ∧ a < lo + m * rs ∧ (a - lo) % rs = 0 then (if k < L then some (bs + s1 * ((a - lo) / rs) + s2 * k) else none) else finAGo r a k
def fin (a k : Nat) : Option Nat := match lay a with
  | (0, 7, _) => if k = 0 then some 1 else ((finC 7).lookup k).map (fun x => a + x)
  | (0, 8, _) => if k = 6 then some 0 else ((finC 8).lookup k).map (fun x => a + x)
  | (0, ci, _) => ((finC ci).lookup k).map (fun x => a + x)
  | (2, 64, 10) => if k < 64 then some (a + 1 + 2 * k) else none
  | (2, 7, 3) => if lay (a - 1) = (1, 60, 0) then (if k < 7 then some (a + 2 + 2 * k) else none) else if a < N0 then finAGo finA a k else none
  | (2, _, _) => if a < N0 then finAGo finA a k else none
  | _ => none
def Sk (h : Hp) : Prop := ∀ a k x, fin a k = some x → h.2 a k = some x
def cf (b : Nat) (cA : Nat → ClassId) (h : Hp) : Nat → va_E := fun x => ce b cA (lay (x - b)) (h.1 (x - b)) (h.2 (x - b))
/-- the heap at b holds n cells as h says; in the main phase (ph) all cells are there and what stays has its value -/
def Rep (D : va_G) (cA : Nat → ClassId) (b : Nat) (ph : Bool) (n : Nat) (h : Hp) (H : Heap) : Prop := H.size = b + n ∧ va_P D jcl (va_pl (wl b n) (cf b cA h)) H ∧ (ph = true → N0 ≤ n ∧ Sk h)
def isNest (w : Cond) : Bool := match w with
  | .fieldLinkNest _ _ _ _ _ _ => true
  | .methodLinkNest _ _ _ _ => true
  | .arrayOver (.object _) => true
  | .arrayOver (.array _) => true
  | .castable _ _ => true
  | _ => false
def lw_nest : List Cond := lw_tbl.filter isNest
def Kn (g : GX) (U : State) : Prop := va_K g.2.1 jcl (jtys g.2.2.1) U ∧ ∀ w ∈ lw_nest, va_Nw w U
def conc (b : Nat) (v : Value) : Value := match v with
  | .ref a => .ref (b + a)
  | .null => .null
  | .int x => .int x
  | .long x => .long x
  | .float x => .float x
  | .double x => .double x
  | .retAddr x => .retAddr x
def al (b : Nat) : Nat → LV → List (Nat × Value)
  | _, [] => []
  | i, none :: t => al b (i + 1) t
  | i, some v :: t => (i, conc b v) :: al b (i + 1) t
def clr (v : Option Value) : Option Value := match v with
  | some (.long _) => none
  | some (.double _) => none
  | x => x
/-- a store of one word, of two words -/
def stL (ls : LV) (i : Nat) (v : Value) : LV := match i with
  | 0 => ls.set 0 (some v)
  | i + 1 => (ls.modify i clr).set (i + 1) (some v)
def stL2 (ls : LV) (i : Nat) (v : Value) : LV := (stL ls i v).set (i + 1) none
def entL (vs : List Value) : LV := match vs with
  | [] => []
  | .long x :: t => some (.long x) :: none :: entL t
  | .double x :: t => some (.double x) :: none :: entL t
  | v :: t => some v :: entL t
def rmD (d mc ms : Nat) : Room := { frames := d, cells := mc, slots := ms, locals := 40 * d }
def av' (b : Nat) (av : List Value) : List Value := av.map (conc b)
theorem conc_cat (b : Nat) (v : Value) : (conc b v).category = v.category := by cases v <;> rfl
theorem al_mem {b : Nat} : ∀ {ls : LV} {k i : Nat} {v : Value}, ls[i]? = some (some v) → (k + i, conc b v) ∈ al b k ls
  | [], k, i, v, h => by simp at h
  | x :: t, k, 0, v, h => by
    simp at h
    subst h
    simp [al]
  | x :: t, k, i + 1, v, h => by
    have h1 : t[i]? = some (some v) := by simpa using h
    have h2 := al_mem (b := b) (k := k + 1) h1
    have e : k + 1 + i = k + (i + 1) := by omega
    rw [e] at h2
    cases x with
    | none => exact h2
    | some w => exact List.mem_cons_of_mem _ h2
theorem mem_al {b : Nat} : ∀ {ls : LV} {k j : Nat} {w : Value}, (j, w) ∈ al b k ls → ∃ (i : Nat) (v : Value), j = k + i ∧ w = conc b v ∧ ls[i]? = some (some v)
  | [], k, j, w, h => by simp [al] at h
  | none :: t, k, j, w, h => by
    obtain ⟨i, v, e1, e2, e3⟩ := mem_al (ls := t) (k := k + 1) h
    exact ⟨i + 1, v, by omega, e2, by simpa using e3⟩
  | some x :: t, k, j, w, h => by
    rcases List.mem_cons.mp h with h | h
    · cases h
      exact ⟨0, x, rfl, rfl, rfl⟩
    · obtain ⟨i, v, e1, e2, e3⟩ := mem_al (ls := t) (k := k + 1) h
      exact ⟨i + 1, v, by omega, e2, by simpa using e3⟩
theorem lv_get {b nL : Nat} {ls : LV} {a : Array Slot} {i : Nat} {v : Value} (h : lv_has a nL (al b 0 ls)) (hl : ls[i]? = some (some v)) : a[i]? = some (.val (conc b v)) := by
  have := h.2.2 (i, conc b v) (by have := al_mem (b := b) (k := 0) hl; rwa [Nat.zero_add] at this)
  exact this
/-- what is listed behind a store was listed ahead of it, or is the stored one -/
theorem stL_get {ls : LV} {i : Nat} {v : Value} {j : Nat} {w : Value} (h : (stL ls i v)[j]? = some (some w)) : (j = i ∧ w = v) ∨ (j ≠ i ∧ ls[j]? = some (some w) ∧ (j + 1 = i → w.category ≠ 2)) := by
  cases i with
  | zero =>
    simp only [stL, List.getElem?_set] at h
    by_cases e : 0 = j
    · subst e
      simp at h
      exact Or.inl ⟨rfl, h.2.symm⟩
    · rw [if_neg e] at h
      exact Or.inr ⟨fun q => e q.symm, h, fun q => by omega⟩
  | succ i =>
    simp only [stL, List.getElem?_set, List.getElem?_modify] at h
    by_cases e : i + 1 = j
    · subst e
      simp at h
      exact Or.inl ⟨rfl, h.2.symm⟩
    · rw [if_neg e] at h
      by_cases e2 : i = j
      · subst e2
        cases hl : ls[i]? with
        | none => simp [hl] at h
        | some x =>
          simp [hl] at h
          cases x with
          | none => simp [clr] at h
          | some y =>
            cases y <;> simp [clr] at h <;> subst h <;> exact Or.inr ⟨by omega, rfl, fun _ => by simp [Value.category]⟩
      · have h' : ls[j]? = some (some w) := by
          cases hl : ls[j]? with
          | none => simp [hl, e2] at h
          | some x => simpa [hl, e2] using h
        exact Or.inr ⟨fun q => e q.symm, h', fun q => by omega⟩
theorem lv_stL {b nL : Nat} {ls ls2 : LV} {a : Array Slot} {i : Nat} {v : Value} (hl : stL ls i v = ls2) (h : lv_has a nL ((i, conc b v) :: (al b 0 ls).filter (fun q => !(q.1 == i) && !(q.1 + 1 == i && q.2.category == 2)))) : lv_has a nL (al b 0 ls2) := by
  refine ⟨h.1, h.2.1, fun q hq => ?_⟩
  obtain ⟨j, w⟩ := q
  obtain ⟨k, u, e1, e2, e3⟩ := mem_al hq
  rw [Nat.zero_add] at e1
  subst e1; subst e2; subst hl
  rcases stL_get e3 with ⟨r1, r2⟩ | ⟨r1, r2, r3⟩
  · subst r1; subst r2
    exact h.2.2 _ List.mem_cons_self
  · refine h.2.2 (j, conc b u) (List.mem_cons_of_mem _ (List.mem_filter.mpr ⟨by have := al_mem (b := b) (k := 0) r2; rwa [Nat.zero_add] at this, ?_⟩))
    simp only [Bool.and_eq_true, Bool.not_eq_true', beq_eq_false_iff_ne, ne_eq, Bool.and_eq_false_iff, conc_cat]
    refine ⟨r1, ?_⟩
    by_cases q : j + 1 = i
    · exact Or.inr (r3 q)
    · exact Or.inl q
theorem lv_stL2 {b nL : Nat} {ls ls2 : LV} {a : Array Slot} {i : Nat} {v : Value} (hl : stL2 ls i v = ls2) (h : lv_has a nL ((i, conc b v) :: (al b 0 ls).filter (fun q => !(q.1 == i) && (!(q.1 == i + 1) && !(q.1 + 1 == i && q.2.category == 2))))) : lv_has a nL (al b 0 ls2) := by
  refine ⟨h.1, h.2.1, fun q hq => ?_⟩
  obtain ⟨j, w⟩ := q
  obtain ⟨k, u, e1, e2, e3⟩ := mem_al hq
  rw [Nat.zero_add] at e1
  subst e1; subst e2; subst hl
  simp only [stL2, List.getElem?_set] at e3
  by_cases e : i + 1 = j
  · rw [if_pos e] at e3
    split at e3 <;> simp at e3
  · rw [if_neg e] at e3
    rcases stL_get e3 with ⟨r1, r2⟩ | ⟨r1, r2, r3⟩
    · subst r1; subst r2
      exact h.2.2 _ List.mem_cons_self
    · refine h.2.2 (j, conc b u) (List.mem_cons_of_mem _ (List.mem_filter.mpr ⟨by have := al_mem (b := b) (k := 0) r2; rwa [Nat.zero_add] at this, ?_⟩))
      simp only [Bool.and_eq_true, Bool.not_eq_true', beq_eq_false_iff_ne, ne_eq, Bool.and_eq_false_iff, conc_cat]
      refine ⟨r1, fun q => e q.symm, ?_⟩
      by_cases q : j + 1 = i
      · exact Or.inr (r3 q)
      · exact Or.inl q
