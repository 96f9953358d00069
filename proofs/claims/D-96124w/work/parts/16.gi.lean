/-! ===== gi: the two objects and what they hold, at their addresses ===== -/
set_option maxRecDepth 100000
def pm_eq (a : Nat) : pm_M → Nat → Prop := fun _ x => x = a
def pm_ln (n : Nat) : pm_M → Nat → Nat := fun _ _ => n
def pm_is (c : Nat) : pm_M → Nat → Prop := fun S a => (pm_hd S a).1 = c
def pm_ar (t : Nat) : pm_M → Nat → Prop := fun S a => (pm_hd S a).1 = 100 + t
def pm_hl : pm_M → Nat → Nat := fun S a => (pm_hd S a).2
def pm_isT (t : Nat) : Prop := t = 4 ∨ t = 15 ∨ ∃ k, k < 18 ∧ t = 86 + 4 * k
def pm_tw : pm_M → Nat → Prop := fun _ t => pm_isT t
def pm_ta (k : Nat) : pm_M → Nat → Prop := fun _ a => ∃ t, pm_isT t ∧ a = t + (1 + k)
def pm_cn (x : Nat) : Nat → Nat := fun _ => x
def pm_pl (k : Nat) : Nat → Nat := fun t => t + k
def pm_gf (b s : Nat) : Nat → Nat → Nat := fun _ i => b + s * i
def pm_id : Int32 → Int32 := fun x => x
def pm_tt : pm_M → List Value → Prop := fun _ _ => True
def pm_T : pm_M → Prop := fun _ => True
theorem pm_T_s : pm_Gs pm_T := ⟨fun _ _ _ _ => trivial, fun _ _ _ _ => trivial, fun _ _ _ _ _ => trivial⟩
theorem pm_out_nil {μ : pm_Mt} {pc : Nat} (h : μ.2.2.2.2 = []) : pm_out μ pc := fun x hx => by rw [h] at hx; cases hx
theorem pm_out_ck {μ : pm_Mt} {pc : Nat} (h : (μ.2.2.2.2.all fun h => !(decide (h.1 ≤ pc) && decide (pc < h.2.1))) = true) : pm_out μ pc := fun x hx => by
  have := List.all_eq_true.mp h x hx
  simp at this
  omega
theorem pm_en_nil : pm_en [] = [] := rfl
theorem pm_en_int {x : Int32} {vs : List Value} : pm_en (.int x :: vs) = some (.int x) :: pm_en vs := rfl
theorem pm_en_ref {x : Nat} {vs : List Value} : pm_en (.ref x :: vs) = some (.ref x) :: pm_en vs := rfl
theorem pm_en_null {vs : List Value} : pm_en (.null :: vs) = some .null :: pm_en vs := rfl
theorem pm_en_long {x : Int64} {vs : List Value} : pm_en (.long x :: vs) = some (.long x) :: none :: pm_en vs := rfl
def pm_bd : pm_M → Nat → Prop := fun S a => 15 ≤ (pm_hd S a).1 ∧ (pm_hd S a).1 ≤ 22
theorem pm_is_ok {G : pm_M → Prop} (c : Nat) : ∀ S a, G S → pm_is c S a → (pm_hd S a).1 = c := fun _ _ _ h => h
theorem pm_ar_ok {G : pm_M → Prop} (t : Nat) : ∀ S a, G S → pm_ar t S a → pm_hd S a = (100 + t, pm_hl S a) := fun S a _ h => Prod.ext h rfl
theorem pm_rf_o {C : String} : ∀ v : Value, v.isRef = true → narrow (.object C) v = v ∧ fits (.object C) v = true := by
  intro v hv
  cases v <;> first | exact ⟨rfl, rfl⟩ | cases hv
theorem pm_rf_a {t : FieldType} : ∀ v : Value, v.isRef = true → narrow (.array t) v = v ∧ fits (.array t) v = true := by
  intro v hv
  cases v <;> first | exact ⟨rfl, rfl⟩ | cases hv
def gi_hl : List (Nat × Nat) := [(0, 0), (105, 40), (100, 120), (1, 0), (2, 0), (100, 6), (100, 6), (100, 7), (108, 7), (109, 6), (106, 24), (3, 0), (100, 6), (100, 175), (107, 18), (2, 0), (100, 6), (100, 6), (100, 7), (110, 50), (100, 24), (111, 6), (4, 0), (4, 0), (4, 0), (4, 0), (4, 0), (4, 0), (4, 0), (4, 0), (4, 0), (4, 0), (4, 0), (4, 0), (4, 0), (4, 0), (4, 0), (4, 0), (4, 0), (4, 0), (4, 0), (4, 0), (4, 0), (4, 0), (4, 0), (4, 0), (4, 0), (4, 0), (4, 0), (4, 0), (4, 0), (4, 0), (4, 0), (4, 0), (4, 0), (4, 0), (4, 0), (4, 0), (4, 0), (4, 0), (4, 0), (4, 0), (5, 0), (5, 0), (5, 0), (5, 0), (5, 0), (5, 0), (5, 0), (5, 0), (5, 0), (5, 0), (5, 0), (5, 0), (5, 0), (5, 0), (5, 0), (5, 0), (5, 0), (5, 0), (5, 0), (5, 0), (5, 0), (5, 0), (5, 0), (5, 0), (2, 0), (100, 6), (100, 6), (100, 7), (2, 0), (100, 6), (100, 6), (100, 7), (2, 0), (100, 6), (100, 6), (100, 7), (2, 0), (100, 6), (100, 6), (100, 7), (2, 0), (100, 6), (100, 6), (100, 7), (2, 0), (100, 6), (100, 6), (100, 7), (2, 0), (100, 6), (100, 6), (100, 7), (2, 0), (100, 6), (100, 6), (100, 7), (2, 0), (100, 6), (100, 6), (100, 7), (2, 0), (100, 6), (100, 6), (100, 7), (2, 0), (100, 6), (100, 6), (100, 7), (2, 0), (100, 6), (100, 6), (100, 7), (2, 0), (100, 6), (100, 6), (100, 7), (2, 0), (100, 6), (100, 6), (100, 7), (2, 0), (100, 6), (100, 6), (100, 7), (2, 0), (100, 6), (100, 6), (100, 7), (2, 0), (100, 6), (100, 6), (100, 7), (2, 0), (100, 6), (100, 6), (100, 7), (6, 0), (100, 24), (100, 7), (100, 7), (100, 7), (100, 12), (100, 12), (100, 6), (100, 6), (100, 6), (100, 6), (100, 40), (100, 40), (100, 40), (100, 40), (102, 120), (102, 260), (100, 260), (100, 2), (103, 122), (103, 122), (100, 6), (100, 130), (100, 6), (100, 6), (100, 7), (100, 6), (100, 175), (100, 78), (100, 91), (100, 6), (100, 6), (100, 7), (100, 50), (100, 24), (100, 6), (100, 6), (101, 360), (101, 60)]
def gi_pl : List (Nat × Nat × Nat) := [(0, 0, 1), (0, 3, 2), (0, 5, 3), (0, 7, 4), (0, 8, 8), (0, 11, 9), (0, 13, 10), (0, 15, 11), (0, 16, 12), (0, 21, 13), (0, 22, 14), (0, 30, 15), (0, 31, 19), (0, 33, 20), (0, 35, 21), (4, 0, 5), (4, 1, 6), (4, 2, 7), (15, 0, 16), (15, 1, 17), (15, 2, 18), (86, 0, 87), (86, 1, 88), (86, 2, 89), (90, 0, 91), (90, 1, 92), (90, 2, 93), (94, 0, 95), (94, 1, 96), (94, 2, 97), (98, 0, 99), (98, 1, 100), (98, 2, 101), (102, 0, 103), (102, 1, 104), (102, 2, 105), (106, 0, 107), (106, 1, 108), (106, 2, 109), (110, 0, 111), (110, 1, 112), (110, 2, 113), (114, 0, 115), (114, 1, 116), (114, 2, 117), (118, 0, 119), (118, 1, 120), (118, 2, 121), (122, 0, 123), (122, 1, 124), (122, 2, 125), (126, 0, 127), (126, 1, 128), (126, 2, 129), (130, 0, 131), (130, 1, 132), (130, 2, 133), (134, 0, 135), (134, 1, 136), (134, 2, 137), (138, 0, 139), (138, 1, 140), (138, 2, 141), (142, 0, 143), (142, 1, 144), (142, 2, 145), (146, 0, 147), (146, 1, 148), (146, 2, 149), (150, 0, 151), (150, 1, 152), (150, 2, 153), (154, 0, 155), (154, 1, 156), (154, 2, 157), (10, 0, 62), (10, 1, 63), (10, 2, 64), (10, 3, 65), (10, 4, 66), (10, 5, 67), (10, 6, 68), (10, 7, 69), (10, 8, 70), (10, 9, 71), (10, 10, 72), (10, 11, 73), (10, 12, 74), (10, 13, 75), (10, 14, 76), (10, 15, 77), (10, 16, 78), (10, 17, 79), (10, 18, 80), (10, 19, 81), (10, 20, 82), (10, 21, 83), (10, 22, 84), (10, 23, 85), (14, 0, 86), (14, 1, 90), (14, 2, 94), (14, 3, 98), (14, 4, 102), (14, 5, 106), (14, 6, 110), (14, 7, 114), (14, 8, 118), (14, 9, 122), (14, 10, 126), (14, 11, 130), (14, 12, 134), (14, 13, 138), (14, 14, 142), (14, 15, 146), (14, 16, 150), (14, 17, 154), (158, 2, 159), (158, 5, 160), (158, 6, 161), (158, 7, 162), (158, 9, 163), (158, 10, 164), (158, 12, 165), (158, 13, 166), (158, 14, 167), (158, 15, 168), (158, 18, 169), (158, 19, 170), (158, 20, 171), (158, 21, 172), (158, 22, 173), (158, 28, 174), (158, 29, 175), (158, 30, 176), (158, 31, 177), (158, 32, 178), (158, 33, 179), (158, 34, 180), (158, 36, 181), (158, 37, 182), (158, 38, 183), (158, 39, 184), (158, 41, 185), (158, 42, 186), (158, 43, 187), (158, 52, 188), (158, 53, 189), (158, 54, 190), (158, 56, 191), (158, 58, 192), (158, 59, 193), (158, 60, 194), (158, 61, 195), (158, 62, 196)]
def gi (S : pm_M) : Prop := (∀ a, a < 197 → pm_hd S a = gi_hl.getD a (0, 0)) ∧ (∀ q ∈ gi_pl, pm_P S q.1 q.2.1 = some q.2.2) ∧ 197 ≤ pm_n S
theorem gi_s : pm_Gs gi := by
  refine ⟨fun S a f h => h, fun S a f h => h, fun S k n sl h => ⟨fun a ha => ?_, fun q hq => ?_, Nat.le_succ_of_le h.2.2⟩⟩
  · rw [← h.1 a ha]
    have h1 := h.2.2
    have : ¬ a = S.2.2.2.2.1 := fun e => by
      have : pm_n S = S.2.2.2.2.1 := rfl
      omega
    simp [pm_hd, pm_al, this]
  · rw [← h.2.1 q hq]
    have h1 := h.2.2
    have h2 : ∀ q ∈ gi_pl, q.1 < 197 := by decide +kernel
    have h3 := h2 q hq
    have : ¬ q.1 = S.2.2.2.2.1 := fun e => by
      have : pm_n S = S.2.2.2.2.1 := rfl
      omega
    simp [pm_P, pm_al, this]
theorem gi_sP {S : pm_M} {a : Nat} {f : Nat → Option Nat} (hf : ∀ q ∈ gi_pl, q.1 = a → f q.2.1 = some q.2.2) (h : gi S) : gi (pm_sP S a f) := by
  refine ⟨h.1, fun q hq => ?_, h.2.2⟩
  by_cases e : q.1 = a
  · have := hf q hq e
    simp only [pm_P, pm_sP, e, if_true]
    exact this
  · have := h.2.1 q hq
    simp only [pm_P, pm_sP] at this ⊢
    rw [if_neg e]
    exact this
def gi_fr (a : Nat) : Bool := gi_pl.all fun q => !(q.1 == a)
theorem gi_free {S : pm_M} {a : Nat} {f : Nat → Option Nat} (hf : gi_fr a = true) (h : gi S) : gi (pm_sP S a f) :=
  gi_sP (fun q hq e => by
    have := List.all_eq_true.mp hf q hq
    rw [e] at this
    simp at this) h
theorem gi_big {S : pm_M} {a : Nat} {f : Nat → Option Nat} (hf : 197 ≤ a) (h : gi S) : gi (pm_sP S a f) :=
  gi_sP (fun q hq e => by
    have h2 : ∀ q ∈ gi_pl, q.1 < 197 := by decide +kernel
    have h3 := h2 q hq
    omega) h
theorem gi_at {a k n : Nat} (ha : a < 197) (e : gi_hl.getD a (0, 0) = (k, n)) : ∀ S x, gi S → pm_eq a S x → pm_hd S x = (k, n) := fun S x h hx => by
  rw [show x = a from hx, h.1 a ha, e]
theorem gi_p {a k x : Nat} (e : (a, k, x) ∈ gi_pl) : ∀ S, gi S → pm_P S a k = some x := fun S h => h.2.1 _ e
theorem gh_0 : ∀ S x, gi S → pm_eq 0 S x → (pm_hd S x).1 = 0 := fun S x h hx => congrArg Prod.fst (gi_at (a := 0) (by decide) rfl S x h hx)
theorem gh_158 : ∀ S x, gi S → pm_eq 158 S x → (pm_hd S x).1 = 6 := fun S x h hx => congrArg Prod.fst (gi_at (a := 158) (by decide) rfl S x h hx)
theorem gh_3 : ∀ S x, gi S → pm_eq 3 S x → (pm_hd S x).1 = 1 := fun S x h hx => congrArg Prod.fst (gi_at (a := 3) (by decide) rfl S x h hx)
theorem gh_11 : ∀ S x, gi S → pm_eq 11 S x → (pm_hd S x).1 = 3 := fun S x h hx => congrArg Prod.fst (gi_at (a := 11) (by decide) rfl S x h hx)
theorem ga_1 : ∀ S x, gi S → pm_eq 1 S x → pm_hd S x = (105, pm_ln 40 S x) := gi_at (a := 1) (by decide) rfl
theorem ga_2 : ∀ S x, gi S → pm_eq 2 S x → pm_hd S x = (100, pm_ln 120 S x) := gi_at (a := 2) (by decide) rfl
theorem ga_5 : ∀ S x, gi S → pm_eq 5 S x → pm_hd S x = (100, pm_ln 6 S x) := gi_at (a := 5) (by decide) rfl
theorem ga_6 : ∀ S x, gi S → pm_eq 6 S x → pm_hd S x = (100, pm_ln 6 S x) := gi_at (a := 6) (by decide) rfl
theorem ga_7 : ∀ S x, gi S → pm_eq 7 S x → pm_hd S x = (100, pm_ln 7 S x) := gi_at (a := 7) (by decide) rfl
theorem ga_8 : ∀ S x, gi S → pm_eq 8 S x → pm_hd S x = (108, pm_ln 7 S x) := gi_at (a := 8) (by decide) rfl
theorem ga_9 : ∀ S x, gi S → pm_eq 9 S x → pm_hd S x = (109, pm_ln 6 S x) := gi_at (a := 9) (by decide) rfl
theorem ga_10 : ∀ S x, gi S → pm_eq 10 S x → pm_hd S x = (106, pm_ln 24 S x) := gi_at (a := 10) (by decide) rfl
theorem ga_12 : ∀ S x, gi S → pm_eq 12 S x → pm_hd S x = (100, pm_ln 6 S x) := gi_at (a := 12) (by decide) rfl
theorem ga_13 : ∀ S x, gi S → pm_eq 13 S x → pm_hd S x = (100, pm_ln 175 S x) := gi_at (a := 13) (by decide) rfl
theorem ga_14 : ∀ S x, gi S → pm_eq 14 S x → pm_hd S x = (107, pm_ln 18 S x) := gi_at (a := 14) (by decide) rfl
theorem ga_16 : ∀ S x, gi S → pm_eq 16 S x → pm_hd S x = (100, pm_ln 6 S x) := gi_at (a := 16) (by decide) rfl
theorem ga_17 : ∀ S x, gi S → pm_eq 17 S x → pm_hd S x = (100, pm_ln 6 S x) := gi_at (a := 17) (by decide) rfl
theorem ga_18 : ∀ S x, gi S → pm_eq 18 S x → pm_hd S x = (100, pm_ln 7 S x) := gi_at (a := 18) (by decide) rfl
theorem ga_19 : ∀ S x, gi S → pm_eq 19 S x → pm_hd S x = (110, pm_ln 50 S x) := gi_at (a := 19) (by decide) rfl
theorem ga_20 : ∀ S x, gi S → pm_eq 20 S x → pm_hd S x = (100, pm_ln 24 S x) := gi_at (a := 20) (by decide) rfl
theorem ga_21 : ∀ S x, gi S → pm_eq 21 S x → pm_hd S x = (111, pm_ln 6 S x) := gi_at (a := 21) (by decide) rfl
theorem ga_87 : ∀ S x, gi S → pm_eq 87 S x → pm_hd S x = (100, pm_ln 6 S x) := gi_at (a := 87) (by decide) rfl
theorem ga_88 : ∀ S x, gi S → pm_eq 88 S x → pm_hd S x = (100, pm_ln 6 S x) := gi_at (a := 88) (by decide) rfl
theorem ga_89 : ∀ S x, gi S → pm_eq 89 S x → pm_hd S x = (100, pm_ln 7 S x) := gi_at (a := 89) (by decide) rfl
theorem ga_91 : ∀ S x, gi S → pm_eq 91 S x → pm_hd S x = (100, pm_ln 6 S x) := gi_at (a := 91) (by decide) rfl
theorem ga_92 : ∀ S x, gi S → pm_eq 92 S x → pm_hd S x = (100, pm_ln 6 S x) := gi_at (a := 92) (by decide) rfl
theorem ga_93 : ∀ S x, gi S → pm_eq 93 S x → pm_hd S x = (100, pm_ln 7 S x) := gi_at (a := 93) (by decide) rfl
theorem ga_95 : ∀ S x, gi S → pm_eq 95 S x → pm_hd S x = (100, pm_ln 6 S x) := gi_at (a := 95) (by decide) rfl
theorem ga_96 : ∀ S x, gi S → pm_eq 96 S x → pm_hd S x = (100, pm_ln 6 S x) := gi_at (a := 96) (by decide) rfl
theorem ga_97 : ∀ S x, gi S → pm_eq 97 S x → pm_hd S x = (100, pm_ln 7 S x) := gi_at (a := 97) (by decide) rfl
theorem ga_99 : ∀ S x, gi S → pm_eq 99 S x → pm_hd S x = (100, pm_ln 6 S x) := gi_at (a := 99) (by decide) rfl
theorem ga_100 : ∀ S x, gi S → pm_eq 100 S x → pm_hd S x = (100, pm_ln 6 S x) := gi_at (a := 100) (by decide) rfl
theorem ga_101 : ∀ S x, gi S → pm_eq 101 S x → pm_hd S x = (100, pm_ln 7 S x) := gi_at (a := 101) (by decide) rfl
theorem ga_103 : ∀ S x, gi S → pm_eq 103 S x → pm_hd S x = (100, pm_ln 6 S x) := gi_at (a := 103) (by decide) rfl
theorem ga_104 : ∀ S x, gi S → pm_eq 104 S x → pm_hd S x = (100, pm_ln 6 S x) := gi_at (a := 104) (by decide) rfl
theorem ga_105 : ∀ S x, gi S → pm_eq 105 S x → pm_hd S x = (100, pm_ln 7 S x) := gi_at (a := 105) (by decide) rfl
theorem ga_107 : ∀ S x, gi S → pm_eq 107 S x → pm_hd S x = (100, pm_ln 6 S x) := gi_at (a := 107) (by decide) rfl
theorem ga_108 : ∀ S x, gi S → pm_eq 108 S x → pm_hd S x = (100, pm_ln 6 S x) := gi_at (a := 108) (by decide) rfl
theorem ga_109 : ∀ S x, gi S → pm_eq 109 S x → pm_hd S x = (100, pm_ln 7 S x) := gi_at (a := 109) (by decide) rfl
theorem ga_111 : ∀ S x, gi S → pm_eq 111 S x → pm_hd S x = (100, pm_ln 6 S x) := gi_at (a := 111) (by decide) rfl
theorem ga_112 : ∀ S x, gi S → pm_eq 112 S x → pm_hd S x = (100, pm_ln 6 S x) := gi_at (a := 112) (by decide) rfl
theorem ga_113 : ∀ S x, gi S → pm_eq 113 S x → pm_hd S x = (100, pm_ln 7 S x) := gi_at (a := 113) (by decide) rfl
theorem ga_115 : ∀ S x, gi S → pm_eq 115 S x → pm_hd S x = (100, pm_ln 6 S x) := gi_at (a := 115) (by decide) rfl
theorem ga_116 : ∀ S x, gi S → pm_eq 116 S x → pm_hd S x = (100, pm_ln 6 S x) := gi_at (a := 116) (by decide) rfl
theorem ga_117 : ∀ S x, gi S → pm_eq 117 S x → pm_hd S x = (100, pm_ln 7 S x) := gi_at (a := 117) (by decide) rfl
theorem ga_119 : ∀ S x, gi S → pm_eq 119 S x → pm_hd S x = (100, pm_ln 6 S x) := gi_at (a := 119) (by decide) rfl
theorem ga_120 : ∀ S x, gi S → pm_eq 120 S x → pm_hd S x = (100, pm_ln 6 S x) := gi_at (a := 120) (by decide) rfl
theorem ga_121 : ∀ S x, gi S → pm_eq 121 S x → pm_hd S x = (100, pm_ln 7 S x) := gi_at (a := 121) (by decide) rfl
theorem ga_123 : ∀ S x, gi S → pm_eq 123 S x → pm_hd S x = (100, pm_ln 6 S x) := gi_at (a := 123) (by decide) rfl
theorem ga_124 : ∀ S x, gi S → pm_eq 124 S x → pm_hd S x = (100, pm_ln 6 S x) := gi_at (a := 124) (by decide) rfl
theorem ga_125 : ∀ S x, gi S → pm_eq 125 S x → pm_hd S x = (100, pm_ln 7 S x) := gi_at (a := 125) (by decide) rfl
theorem ga_127 : ∀ S x, gi S → pm_eq 127 S x → pm_hd S x = (100, pm_ln 6 S x) := gi_at (a := 127) (by decide) rfl
theorem ga_128 : ∀ S x, gi S → pm_eq 128 S x → pm_hd S x = (100, pm_ln 6 S x) := gi_at (a := 128) (by decide) rfl
theorem ga_129 : ∀ S x, gi S → pm_eq 129 S x → pm_hd S x = (100, pm_ln 7 S x) := gi_at (a := 129) (by decide) rfl
theorem ga_131 : ∀ S x, gi S → pm_eq 131 S x → pm_hd S x = (100, pm_ln 6 S x) := gi_at (a := 131) (by decide) rfl
theorem ga_132 : ∀ S x, gi S → pm_eq 132 S x → pm_hd S x = (100, pm_ln 6 S x) := gi_at (a := 132) (by decide) rfl
theorem ga_133 : ∀ S x, gi S → pm_eq 133 S x → pm_hd S x = (100, pm_ln 7 S x) := gi_at (a := 133) (by decide) rfl
theorem ga_135 : ∀ S x, gi S → pm_eq 135 S x → pm_hd S x = (100, pm_ln 6 S x) := gi_at (a := 135) (by decide) rfl
theorem ga_136 : ∀ S x, gi S → pm_eq 136 S x → pm_hd S x = (100, pm_ln 6 S x) := gi_at (a := 136) (by decide) rfl
theorem ga_137 : ∀ S x, gi S → pm_eq 137 S x → pm_hd S x = (100, pm_ln 7 S x) := gi_at (a := 137) (by decide) rfl
theorem ga_139 : ∀ S x, gi S → pm_eq 139 S x → pm_hd S x = (100, pm_ln 6 S x) := gi_at (a := 139) (by decide) rfl
theorem ga_140 : ∀ S x, gi S → pm_eq 140 S x → pm_hd S x = (100, pm_ln 6 S x) := gi_at (a := 140) (by decide) rfl
theorem ga_141 : ∀ S x, gi S → pm_eq 141 S x → pm_hd S x = (100, pm_ln 7 S x) := gi_at (a := 141) (by decide) rfl
theorem ga_143 : ∀ S x, gi S → pm_eq 143 S x → pm_hd S x = (100, pm_ln 6 S x) := gi_at (a := 143) (by decide) rfl
theorem ga_144 : ∀ S x, gi S → pm_eq 144 S x → pm_hd S x = (100, pm_ln 6 S x) := gi_at (a := 144) (by decide) rfl
theorem ga_145 : ∀ S x, gi S → pm_eq 145 S x → pm_hd S x = (100, pm_ln 7 S x) := gi_at (a := 145) (by decide) rfl
theorem ga_147 : ∀ S x, gi S → pm_eq 147 S x → pm_hd S x = (100, pm_ln 6 S x) := gi_at (a := 147) (by decide) rfl
theorem ga_148 : ∀ S x, gi S → pm_eq 148 S x → pm_hd S x = (100, pm_ln 6 S x) := gi_at (a := 148) (by decide) rfl
theorem ga_149 : ∀ S x, gi S → pm_eq 149 S x → pm_hd S x = (100, pm_ln 7 S x) := gi_at (a := 149) (by decide) rfl
theorem ga_151 : ∀ S x, gi S → pm_eq 151 S x → pm_hd S x = (100, pm_ln 6 S x) := gi_at (a := 151) (by decide) rfl
theorem ga_152 : ∀ S x, gi S → pm_eq 152 S x → pm_hd S x = (100, pm_ln 6 S x) := gi_at (a := 152) (by decide) rfl
theorem ga_153 : ∀ S x, gi S → pm_eq 153 S x → pm_hd S x = (100, pm_ln 7 S x) := gi_at (a := 153) (by decide) rfl
theorem ga_155 : ∀ S x, gi S → pm_eq 155 S x → pm_hd S x = (100, pm_ln 6 S x) := gi_at (a := 155) (by decide) rfl
theorem ga_156 : ∀ S x, gi S → pm_eq 156 S x → pm_hd S x = (100, pm_ln 6 S x) := gi_at (a := 156) (by decide) rfl
theorem ga_157 : ∀ S x, gi S → pm_eq 157 S x → pm_hd S x = (100, pm_ln 7 S x) := gi_at (a := 157) (by decide) rfl
theorem ga_159 : ∀ S x, gi S → pm_eq 159 S x → pm_hd S x = (100, pm_ln 24 S x) := gi_at (a := 159) (by decide) rfl
theorem ga_160 : ∀ S x, gi S → pm_eq 160 S x → pm_hd S x = (100, pm_ln 7 S x) := gi_at (a := 160) (by decide) rfl
theorem ga_161 : ∀ S x, gi S → pm_eq 161 S x → pm_hd S x = (100, pm_ln 7 S x) := gi_at (a := 161) (by decide) rfl
theorem ga_162 : ∀ S x, gi S → pm_eq 162 S x → pm_hd S x = (100, pm_ln 7 S x) := gi_at (a := 162) (by decide) rfl
theorem ga_163 : ∀ S x, gi S → pm_eq 163 S x → pm_hd S x = (100, pm_ln 12 S x) := gi_at (a := 163) (by decide) rfl
theorem ga_164 : ∀ S x, gi S → pm_eq 164 S x → pm_hd S x = (100, pm_ln 12 S x) := gi_at (a := 164) (by decide) rfl
theorem ga_165 : ∀ S x, gi S → pm_eq 165 S x → pm_hd S x = (100, pm_ln 6 S x) := gi_at (a := 165) (by decide) rfl
theorem ga_166 : ∀ S x, gi S → pm_eq 166 S x → pm_hd S x = (100, pm_ln 6 S x) := gi_at (a := 166) (by decide) rfl
theorem ga_167 : ∀ S x, gi S → pm_eq 167 S x → pm_hd S x = (100, pm_ln 6 S x) := gi_at (a := 167) (by decide) rfl
theorem ga_168 : ∀ S x, gi S → pm_eq 168 S x → pm_hd S x = (100, pm_ln 6 S x) := gi_at (a := 168) (by decide) rfl
theorem ga_169 : ∀ S x, gi S → pm_eq 169 S x → pm_hd S x = (100, pm_ln 40 S x) := gi_at (a := 169) (by decide) rfl
theorem ga_170 : ∀ S x, gi S → pm_eq 170 S x → pm_hd S x = (100, pm_ln 40 S x) := gi_at (a := 170) (by decide) rfl
theorem ga_171 : ∀ S x, gi S → pm_eq 171 S x → pm_hd S x = (100, pm_ln 40 S x) := gi_at (a := 171) (by decide) rfl
theorem ga_172 : ∀ S x, gi S → pm_eq 172 S x → pm_hd S x = (100, pm_ln 40 S x) := gi_at (a := 172) (by decide) rfl
theorem ga_173 : ∀ S x, gi S → pm_eq 173 S x → pm_hd S x = (102, pm_ln 120 S x) := gi_at (a := 173) (by decide) rfl
theorem ga_174 : ∀ S x, gi S → pm_eq 174 S x → pm_hd S x = (102, pm_ln 260 S x) := gi_at (a := 174) (by decide) rfl
theorem ga_175 : ∀ S x, gi S → pm_eq 175 S x → pm_hd S x = (100, pm_ln 260 S x) := gi_at (a := 175) (by decide) rfl
theorem ga_176 : ∀ S x, gi S → pm_eq 176 S x → pm_hd S x = (100, pm_ln 2 S x) := gi_at (a := 176) (by decide) rfl
theorem ga_177 : ∀ S x, gi S → pm_eq 177 S x → pm_hd S x = (103, pm_ln 122 S x) := gi_at (a := 177) (by decide) rfl
theorem ga_178 : ∀ S x, gi S → pm_eq 178 S x → pm_hd S x = (103, pm_ln 122 S x) := gi_at (a := 178) (by decide) rfl
theorem ga_179 : ∀ S x, gi S → pm_eq 179 S x → pm_hd S x = (100, pm_ln 6 S x) := gi_at (a := 179) (by decide) rfl
theorem ga_180 : ∀ S x, gi S → pm_eq 180 S x → pm_hd S x = (100, pm_ln 130 S x) := gi_at (a := 180) (by decide) rfl
theorem ga_181 : ∀ S x, gi S → pm_eq 181 S x → pm_hd S x = (100, pm_ln 6 S x) := gi_at (a := 181) (by decide) rfl
theorem ga_182 : ∀ S x, gi S → pm_eq 182 S x → pm_hd S x = (100, pm_ln 6 S x) := gi_at (a := 182) (by decide) rfl
theorem ga_183 : ∀ S x, gi S → pm_eq 183 S x → pm_hd S x = (100, pm_ln 7 S x) := gi_at (a := 183) (by decide) rfl
theorem ga_184 : ∀ S x, gi S → pm_eq 184 S x → pm_hd S x = (100, pm_ln 6 S x) := gi_at (a := 184) (by decide) rfl
theorem ga_185 : ∀ S x, gi S → pm_eq 185 S x → pm_hd S x = (100, pm_ln 175 S x) := gi_at (a := 185) (by decide) rfl
theorem ga_186 : ∀ S x, gi S → pm_eq 186 S x → pm_hd S x = (100, pm_ln 78 S x) := gi_at (a := 186) (by decide) rfl
theorem ga_187 : ∀ S x, gi S → pm_eq 187 S x → pm_hd S x = (100, pm_ln 91 S x) := gi_at (a := 187) (by decide) rfl
theorem ga_188 : ∀ S x, gi S → pm_eq 188 S x → pm_hd S x = (100, pm_ln 6 S x) := gi_at (a := 188) (by decide) rfl
theorem ga_189 : ∀ S x, gi S → pm_eq 189 S x → pm_hd S x = (100, pm_ln 6 S x) := gi_at (a := 189) (by decide) rfl
theorem ga_190 : ∀ S x, gi S → pm_eq 190 S x → pm_hd S x = (100, pm_ln 7 S x) := gi_at (a := 190) (by decide) rfl
theorem ga_191 : ∀ S x, gi S → pm_eq 191 S x → pm_hd S x = (100, pm_ln 50 S x) := gi_at (a := 191) (by decide) rfl
theorem ga_192 : ∀ S x, gi S → pm_eq 192 S x → pm_hd S x = (100, pm_ln 24 S x) := gi_at (a := 192) (by decide) rfl
theorem ga_193 : ∀ S x, gi S → pm_eq 193 S x → pm_hd S x = (100, pm_ln 6 S x) := gi_at (a := 193) (by decide) rfl
theorem ga_194 : ∀ S x, gi S → pm_eq 194 S x → pm_hd S x = (100, pm_ln 6 S x) := gi_at (a := 194) (by decide) rfl
theorem ga_195 : ∀ S x, gi S → pm_eq 195 S x → pm_hd S x = (101, pm_ln 360 S x) := gi_at (a := 195) (by decide) rfl
theorem ga_196 : ∀ S x, gi S → pm_eq 196 S x → pm_hd S x = (101, pm_ln 60 S x) := gi_at (a := 196) (by decide) rfl
theorem gg_0_0 : ∀ S y, gi S → pm_eq 0 S y → (pm_hd S y).1 = 0 ∧ pm_P S y 0 = some (pm_cn 1 y) := fun S y h hy => ⟨gh_0 S y h hy, by rw [show y = 0 from hy]; exact gi_p (by decide) S h⟩
theorem gg_0_3 : ∀ S y, gi S → pm_eq 0 S y → (pm_hd S y).1 = 0 ∧ pm_P S y 3 = some (pm_cn 2 y) := fun S y h hy => ⟨gh_0 S y h hy, by rw [show y = 0 from hy]; exact gi_p (by decide) S h⟩
theorem gg_0_5 : ∀ S y, gi S → pm_eq 0 S y → (pm_hd S y).1 = 0 ∧ pm_P S y 5 = some (pm_cn 3 y) := fun S y h hy => ⟨gh_0 S y h hy, by rw [show y = 0 from hy]; exact gi_p (by decide) S h⟩
theorem gg_0_7 : ∀ S y, gi S → pm_eq 0 S y → (pm_hd S y).1 = 0 ∧ pm_P S y 7 = some (pm_cn 4 y) := fun S y h hy => ⟨gh_0 S y h hy, by rw [show y = 0 from hy]; exact gi_p (by decide) S h⟩
theorem gg_0_8 : ∀ S y, gi S → pm_eq 0 S y → (pm_hd S y).1 = 0 ∧ pm_P S y 8 = some (pm_cn 8 y) := fun S y h hy => ⟨gh_0 S y h hy, by rw [show y = 0 from hy]; exact gi_p (by decide) S h⟩
theorem gg_0_11 : ∀ S y, gi S → pm_eq 0 S y → (pm_hd S y).1 = 0 ∧ pm_P S y 11 = some (pm_cn 9 y) := fun S y h hy => ⟨gh_0 S y h hy, by rw [show y = 0 from hy]; exact gi_p (by decide) S h⟩
theorem gg_0_13 : ∀ S y, gi S → pm_eq 0 S y → (pm_hd S y).1 = 0 ∧ pm_P S y 13 = some (pm_cn 10 y) := fun S y h hy => ⟨gh_0 S y h hy, by rw [show y = 0 from hy]; exact gi_p (by decide) S h⟩
theorem gg_0_15 : ∀ S y, gi S → pm_eq 0 S y → (pm_hd S y).1 = 0 ∧ pm_P S y 15 = some (pm_cn 11 y) := fun S y h hy => ⟨gh_0 S y h hy, by rw [show y = 0 from hy]; exact gi_p (by decide) S h⟩
theorem gg_0_16 : ∀ S y, gi S → pm_eq 0 S y → (pm_hd S y).1 = 0 ∧ pm_P S y 16 = some (pm_cn 12 y) := fun S y h hy => ⟨gh_0 S y h hy, by rw [show y = 0 from hy]; exact gi_p (by decide) S h⟩
theorem gg_0_21 : ∀ S y, gi S → pm_eq 0 S y → (pm_hd S y).1 = 0 ∧ pm_P S y 21 = some (pm_cn 13 y) := fun S y h hy => ⟨gh_0 S y h hy, by rw [show y = 0 from hy]; exact gi_p (by decide) S h⟩
theorem gg_0_22 : ∀ S y, gi S → pm_eq 0 S y → (pm_hd S y).1 = 0 ∧ pm_P S y 22 = some (pm_cn 14 y) := fun S y h hy => ⟨gh_0 S y h hy, by rw [show y = 0 from hy]; exact gi_p (by decide) S h⟩
theorem gg_0_30 : ∀ S y, gi S → pm_eq 0 S y → (pm_hd S y).1 = 0 ∧ pm_P S y 30 = some (pm_cn 15 y) := fun S y h hy => ⟨gh_0 S y h hy, by rw [show y = 0 from hy]; exact gi_p (by decide) S h⟩
theorem gg_0_31 : ∀ S y, gi S → pm_eq 0 S y → (pm_hd S y).1 = 0 ∧ pm_P S y 31 = some (pm_cn 19 y) := fun S y h hy => ⟨gh_0 S y h hy, by rw [show y = 0 from hy]; exact gi_p (by decide) S h⟩
theorem gg_0_33 : ∀ S y, gi S → pm_eq 0 S y → (pm_hd S y).1 = 0 ∧ pm_P S y 33 = some (pm_cn 20 y) := fun S y h hy => ⟨gh_0 S y h hy, by rw [show y = 0 from hy]; exact gi_p (by decide) S h⟩
theorem gg_0_35 : ∀ S y, gi S → pm_eq 0 S y → (pm_hd S y).1 = 0 ∧ pm_P S y 35 = some (pm_cn 21 y) := fun S y h hy => ⟨gh_0 S y h hy, by rw [show y = 0 from hy]; exact gi_p (by decide) S h⟩
theorem gg_158_2 : ∀ S y, gi S → pm_eq 158 S y → (pm_hd S y).1 = 6 ∧ pm_P S y 2 = some (pm_cn 159 y) := fun S y h hy => ⟨gh_158 S y h hy, by rw [show y = 158 from hy]; exact gi_p (by decide) S h⟩
theorem gg_158_5 : ∀ S y, gi S → pm_eq 158 S y → (pm_hd S y).1 = 6 ∧ pm_P S y 5 = some (pm_cn 160 y) := fun S y h hy => ⟨gh_158 S y h hy, by rw [show y = 158 from hy]; exact gi_p (by decide) S h⟩
theorem gg_158_6 : ∀ S y, gi S → pm_eq 158 S y → (pm_hd S y).1 = 6 ∧ pm_P S y 6 = some (pm_cn 161 y) := fun S y h hy => ⟨gh_158 S y h hy, by rw [show y = 158 from hy]; exact gi_p (by decide) S h⟩
theorem gg_158_7 : ∀ S y, gi S → pm_eq 158 S y → (pm_hd S y).1 = 6 ∧ pm_P S y 7 = some (pm_cn 162 y) := fun S y h hy => ⟨gh_158 S y h hy, by rw [show y = 158 from hy]; exact gi_p (by decide) S h⟩
theorem gg_158_9 : ∀ S y, gi S → pm_eq 158 S y → (pm_hd S y).1 = 6 ∧ pm_P S y 9 = some (pm_cn 163 y) := fun S y h hy => ⟨gh_158 S y h hy, by rw [show y = 158 from hy]; exact gi_p (by decide) S h⟩
theorem gg_158_10 : ∀ S y, gi S → pm_eq 158 S y → (pm_hd S y).1 = 6 ∧ pm_P S y 10 = some (pm_cn 164 y) := fun S y h hy => ⟨gh_158 S y h hy, by rw [show y = 158 from hy]; exact gi_p (by decide) S h⟩
theorem gg_158_12 : ∀ S y, gi S → pm_eq 158 S y → (pm_hd S y).1 = 6 ∧ pm_P S y 12 = some (pm_cn 165 y) := fun S y h hy => ⟨gh_158 S y h hy, by rw [show y = 158 from hy]; exact gi_p (by decide) S h⟩
theorem gg_158_13 : ∀ S y, gi S → pm_eq 158 S y → (pm_hd S y).1 = 6 ∧ pm_P S y 13 = some (pm_cn 166 y) := fun S y h hy => ⟨gh_158 S y h hy, by rw [show y = 158 from hy]; exact gi_p (by decide) S h⟩
theorem gg_158_14 : ∀ S y, gi S → pm_eq 158 S y → (pm_hd S y).1 = 6 ∧ pm_P S y 14 = some (pm_cn 167 y) := fun S y h hy => ⟨gh_158 S y h hy, by rw [show y = 158 from hy]; exact gi_p (by decide) S h⟩
theorem gg_158_15 : ∀ S y, gi S → pm_eq 158 S y → (pm_hd S y).1 = 6 ∧ pm_P S y 15 = some (pm_cn 168 y) := fun S y h hy => ⟨gh_158 S y h hy, by rw [show y = 158 from hy]; exact gi_p (by decide) S h⟩
theorem gg_158_18 : ∀ S y, gi S → pm_eq 158 S y → (pm_hd S y).1 = 6 ∧ pm_P S y 18 = some (pm_cn 169 y) := fun S y h hy => ⟨gh_158 S y h hy, by rw [show y = 158 from hy]; exact gi_p (by decide) S h⟩
theorem gg_158_19 : ∀ S y, gi S → pm_eq 158 S y → (pm_hd S y).1 = 6 ∧ pm_P S y 19 = some (pm_cn 170 y) := fun S y h hy => ⟨gh_158 S y h hy, by rw [show y = 158 from hy]; exact gi_p (by decide) S h⟩
theorem gg_158_20 : ∀ S y, gi S → pm_eq 158 S y → (pm_hd S y).1 = 6 ∧ pm_P S y 20 = some (pm_cn 171 y) := fun S y h hy => ⟨gh_158 S y h hy, by rw [show y = 158 from hy]; exact gi_p (by decide) S h⟩
theorem gg_158_21 : ∀ S y, gi S → pm_eq 158 S y → (pm_hd S y).1 = 6 ∧ pm_P S y 21 = some (pm_cn 172 y) := fun S y h hy => ⟨gh_158 S y h hy, by rw [show y = 158 from hy]; exact gi_p (by decide) S h⟩
theorem gg_158_22 : ∀ S y, gi S → pm_eq 158 S y → (pm_hd S y).1 = 6 ∧ pm_P S y 22 = some (pm_cn 173 y) := fun S y h hy => ⟨gh_158 S y h hy, by rw [show y = 158 from hy]; exact gi_p (by decide) S h⟩
theorem gg_158_28 : ∀ S y, gi S → pm_eq 158 S y → (pm_hd S y).1 = 6 ∧ pm_P S y 28 = some (pm_cn 174 y) := fun S y h hy => ⟨gh_158 S y h hy, by rw [show y = 158 from hy]; exact gi_p (by decide) S h⟩
theorem gg_158_29 : ∀ S y, gi S → pm_eq 158 S y → (pm_hd S y).1 = 6 ∧ pm_P S y 29 = some (pm_cn 175 y) := fun S y h hy => ⟨gh_158 S y h hy, by rw [show y = 158 from hy]; exact gi_p (by decide) S h⟩
theorem gg_158_30 : ∀ S y, gi S → pm_eq 158 S y → (pm_hd S y).1 = 6 ∧ pm_P S y 30 = some (pm_cn 176 y) := fun S y h hy => ⟨gh_158 S y h hy, by rw [show y = 158 from hy]; exact gi_p (by decide) S h⟩
theorem gg_158_31 : ∀ S y, gi S → pm_eq 158 S y → (pm_hd S y).1 = 6 ∧ pm_P S y 31 = some (pm_cn 177 y) := fun S y h hy => ⟨gh_158 S y h hy, by rw [show y = 158 from hy]; exact gi_p (by decide) S h⟩
theorem gg_158_32 : ∀ S y, gi S → pm_eq 158 S y → (pm_hd S y).1 = 6 ∧ pm_P S y 32 = some (pm_cn 178 y) := fun S y h hy => ⟨gh_158 S y h hy, by rw [show y = 158 from hy]; exact gi_p (by decide) S h⟩
theorem gg_158_33 : ∀ S y, gi S → pm_eq 158 S y → (pm_hd S y).1 = 6 ∧ pm_P S y 33 = some (pm_cn 179 y) := fun S y h hy => ⟨gh_158 S y h hy, by rw [show y = 158 from hy]; exact gi_p (by decide) S h⟩
theorem gg_158_34 : ∀ S y, gi S → pm_eq 158 S y → (pm_hd S y).1 = 6 ∧ pm_P S y 34 = some (pm_cn 180 y) := fun S y h hy => ⟨gh_158 S y h hy, by rw [show y = 158 from hy]; exact gi_p (by decide) S h⟩
theorem gg_158_36 : ∀ S y, gi S → pm_eq 158 S y → (pm_hd S y).1 = 6 ∧ pm_P S y 36 = some (pm_cn 181 y) := fun S y h hy => ⟨gh_158 S y h hy, by rw [show y = 158 from hy]; exact gi_p (by decide) S h⟩
theorem gg_158_37 : ∀ S y, gi S → pm_eq 158 S y → (pm_hd S y).1 = 6 ∧ pm_P S y 37 = some (pm_cn 182 y) := fun S y h hy => ⟨gh_158 S y h hy, by rw [show y = 158 from hy]; exact gi_p (by decide) S h⟩
theorem gg_158_38 : ∀ S y, gi S → pm_eq 158 S y → (pm_hd S y).1 = 6 ∧ pm_P S y 38 = some (pm_cn 183 y) := fun S y h hy => ⟨gh_158 S y h hy, by rw [show y = 158 from hy]; exact gi_p (by decide) S h⟩
theorem gg_158_39 : ∀ S y, gi S → pm_eq 158 S y → (pm_hd S y).1 = 6 ∧ pm_P S y 39 = some (pm_cn 184 y) := fun S y h hy => ⟨gh_158 S y h hy, by rw [show y = 158 from hy]; exact gi_p (by decide) S h⟩
theorem gg_158_41 : ∀ S y, gi S → pm_eq 158 S y → (pm_hd S y).1 = 6 ∧ pm_P S y 41 = some (pm_cn 185 y) := fun S y h hy => ⟨gh_158 S y h hy, by rw [show y = 158 from hy]; exact gi_p (by decide) S h⟩
theorem gg_158_42 : ∀ S y, gi S → pm_eq 158 S y → (pm_hd S y).1 = 6 ∧ pm_P S y 42 = some (pm_cn 186 y) := fun S y h hy => ⟨gh_158 S y h hy, by rw [show y = 158 from hy]; exact gi_p (by decide) S h⟩
theorem gg_158_43 : ∀ S y, gi S → pm_eq 158 S y → (pm_hd S y).1 = 6 ∧ pm_P S y 43 = some (pm_cn 187 y) := fun S y h hy => ⟨gh_158 S y h hy, by rw [show y = 158 from hy]; exact gi_p (by decide) S h⟩
theorem gg_158_52 : ∀ S y, gi S → pm_eq 158 S y → (pm_hd S y).1 = 6 ∧ pm_P S y 52 = some (pm_cn 188 y) := fun S y h hy => ⟨gh_158 S y h hy, by rw [show y = 158 from hy]; exact gi_p (by decide) S h⟩
theorem gg_158_53 : ∀ S y, gi S → pm_eq 158 S y → (pm_hd S y).1 = 6 ∧ pm_P S y 53 = some (pm_cn 189 y) := fun S y h hy => ⟨gh_158 S y h hy, by rw [show y = 158 from hy]; exact gi_p (by decide) S h⟩
theorem gg_158_54 : ∀ S y, gi S → pm_eq 158 S y → (pm_hd S y).1 = 6 ∧ pm_P S y 54 = some (pm_cn 190 y) := fun S y h hy => ⟨gh_158 S y h hy, by rw [show y = 158 from hy]; exact gi_p (by decide) S h⟩
theorem gg_158_56 : ∀ S y, gi S → pm_eq 158 S y → (pm_hd S y).1 = 6 ∧ pm_P S y 56 = some (pm_cn 191 y) := fun S y h hy => ⟨gh_158 S y h hy, by rw [show y = 158 from hy]; exact gi_p (by decide) S h⟩
theorem gg_158_58 : ∀ S y, gi S → pm_eq 158 S y → (pm_hd S y).1 = 6 ∧ pm_P S y 58 = some (pm_cn 192 y) := fun S y h hy => ⟨gh_158 S y h hy, by rw [show y = 158 from hy]; exact gi_p (by decide) S h⟩
theorem gg_158_59 : ∀ S y, gi S → pm_eq 158 S y → (pm_hd S y).1 = 6 ∧ pm_P S y 59 = some (pm_cn 193 y) := fun S y h hy => ⟨gh_158 S y h hy, by rw [show y = 158 from hy]; exact gi_p (by decide) S h⟩
theorem gg_158_60 : ∀ S y, gi S → pm_eq 158 S y → (pm_hd S y).1 = 6 ∧ pm_P S y 60 = some (pm_cn 194 y) := fun S y h hy => ⟨gh_158 S y h hy, by rw [show y = 158 from hy]; exact gi_p (by decide) S h⟩
theorem gg_158_61 : ∀ S y, gi S → pm_eq 158 S y → (pm_hd S y).1 = 6 ∧ pm_P S y 61 = some (pm_cn 195 y) := fun S y h hy => ⟨gh_158 S y h hy, by rw [show y = 158 from hy]; exact gi_p (by decide) S h⟩
theorem gg_158_62 : ∀ S y, gi S → pm_eq 158 S y → (pm_hd S y).1 = 6 ∧ pm_P S y 62 = some (pm_cn 196 y) := fun S y h hy => ⟨gh_158 S y h hy, by rw [show y = 158 from hy]; exact gi_p (by decide) S h⟩
theorem gt_hd : ∀ S t, gi S → pm_tw S t → pm_hd S t = (2, 0) := by
  intro S t h ht
  rcases ht with rfl | rfl | ⟨k, hk, rfl⟩
  · exact gi_at (by decide) rfl S _ h rfl
  · exact gi_at (by decide) rfl S _ h rfl
  · rw [h.1 (86 + 4 * k) (by omega)]
    exact (show ∀ k, k < 18 → gi_hl.getD (86 + 4 * k) (0, 0) = (2, 0) by decide) k hk
theorem gt_tw : ∀ S t, gi S → pm_tw S t → (pm_hd S t).1 = 2 := fun S t h ht => congrArg Prod.fst (gt_hd S t h ht)
theorem gg_14 : ∀ S a i, gi S → pm_eq 14 S a → i < pm_ln 18 S a → pm_P S a i = some (pm_gf 86 4 a i) := by
  intro S a i h ha hi
  rw [show a = 14 from ha]
  exact gi_p ((show ∀ i, i < 18 → (14, i, 86 + 4 * i) ∈ gi_pl by decide) i hi) S h
theorem gg_10 : ∀ S a i, gi S → pm_eq 10 S a → i < pm_ln 24 S a → pm_P S a i = some (pm_gf 62 1 a i) := by
  intro S a i h ha hi
  rw [show a = 10 from ha]
  exact gi_p ((show ∀ i, i < 24 → (10, i, 62 + 1 * i) ∈ gi_pl by decide) i hi) S h
theorem gt_0 : ∀ S a, gi S → pm_ta 0 S a → pm_hd S a = (100, pm_ln 6 S a) := by
  intro S a h ha
  obtain ⟨t, ht, rfl⟩ := ha
  rcases ht with rfl | rfl | ⟨k, hk, rfl⟩
  · exact gi_at (by decide) rfl S _ h rfl
  · exact gi_at (by decide) rfl S _ h rfl
  · rw [h.1 (86 + 4 * k + (1 + 0)) (by omega)]
    exact (show ∀ k, k < 18 → gi_hl.getD (86 + 4 * k + (1 + 0)) (0, 0) = (100, 6) by decide) k hk
theorem gt_f0 : ∀ S t, gi S → pm_tw S t → (pm_hd S t).1 = 2 ∧ pm_P S t 0 = some (pm_pl 1 t) := by
  intro S t h ht
  refine ⟨gt_tw S t h ht, ?_⟩
  rcases ht with rfl | rfl | ⟨k, hk, rfl⟩
  · exact gi_p (by decide) S h
  · exact gi_p (by decide) S h
  · exact gi_p ((show ∀ k, k < 18 → (86 + 4 * k, 0, 86 + 4 * k + 1) ∈ gi_pl by decide) k hk) S h
theorem gt_1 : ∀ S a, gi S → pm_ta 1 S a → pm_hd S a = (100, pm_ln 6 S a) := by
  intro S a h ha
  obtain ⟨t, ht, rfl⟩ := ha
  rcases ht with rfl | rfl | ⟨k, hk, rfl⟩
  · exact gi_at (by decide) rfl S _ h rfl
  · exact gi_at (by decide) rfl S _ h rfl
  · rw [h.1 (86 + 4 * k + (1 + 1)) (by omega)]
    exact (show ∀ k, k < 18 → gi_hl.getD (86 + 4 * k + (1 + 1)) (0, 0) = (100, 6) by decide) k hk
theorem gt_f1 : ∀ S t, gi S → pm_tw S t → (pm_hd S t).1 = 2 ∧ pm_P S t 1 = some (pm_pl 2 t) := by
  intro S t h ht
  refine ⟨gt_tw S t h ht, ?_⟩
  rcases ht with rfl | rfl | ⟨k, hk, rfl⟩
  · exact gi_p (by decide) S h
  · exact gi_p (by decide) S h
  · exact gi_p ((show ∀ k, k < 18 → (86 + 4 * k, 1, 86 + 4 * k + 2) ∈ gi_pl by decide) k hk) S h
theorem gt_2 : ∀ S a, gi S → pm_ta 2 S a → pm_hd S a = (100, pm_ln 7 S a) := by
  intro S a h ha
  obtain ⟨t, ht, rfl⟩ := ha
  rcases ht with rfl | rfl | ⟨k, hk, rfl⟩
  · exact gi_at (by decide) rfl S _ h rfl
  · exact gi_at (by decide) rfl S _ h rfl
  · rw [h.1 (86 + 4 * k + (1 + 2)) (by omega)]
    exact (show ∀ k, k < 18 → gi_hl.getD (86 + 4 * k + (1 + 2)) (0, 0) = (100, 7) by decide) k hk
theorem gt_f2 : ∀ S t, gi S → pm_tw S t → (pm_hd S t).1 = 2 ∧ pm_P S t 2 = some (pm_pl 3 t) := by
  intro S t h ht
  refine ⟨gt_tw S t h ht, ?_⟩
  rcases ht with rfl | rfl | ⟨k, hk, rfl⟩
  · exact gi_p (by decide) S h
  · exact gi_p (by decide) S h
  · exact gi_p ((show ∀ k, k < 18 → (86 + 4 * k, 2, 86 + 4 * k + 3) ∈ gi_pl by decide) k hk) S h
theorem pm_el_ok {G : pm_M → Prop} (c : Nat) {r : vw_C} {E : String} (h1 : pm_cl[c]? = some r) (h2 : c < 50) (h3 : r.1 = E) (_ : E = E) : ∀ S x, G S → pm_is c S x → ∃ (ci : Nat) (r : vw_C), (pm_hd S x).1 = ci ∧ ci < 50 ∧ pm_cl[ci]? = some r ∧ (r.1 = E ∨ Cond.castable r.1 E ∈ lw_tbl) := fun S x _ h => ⟨c, r, h, h2, h1, Or.inl h3⟩
theorem pm_bd_ok {G : pm_M → Prop} : ∀ S x, G S → pm_bd S x → ∃ (ci : Nat) (r : vw_C), (pm_hd S x).1 = ci ∧ ci < 50 ∧ pm_cl[ci]? = some r ∧ (r.1 = "HatRank$Body" ∨ Cond.castable r.1 "HatRank$Body" ∈ lw_tbl) := by
  intro S x _ hb
  have hb1 := hb.1
  have hb2 := hb.2
  rcases (show (pm_hd S x).1 = 15 ∨ (pm_hd S x).1 = 16 ∨ (pm_hd S x).1 = 17 ∨ (pm_hd S x).1 = 18 ∨ (pm_hd S x).1 = 19 ∨ (pm_hd S x).1 = 20 ∨ (pm_hd S x).1 = 21 ∨ (pm_hd S x).1 = 22 by omega) with h | h | h | h | h | h | h | h
  · exact ⟨15, (RX15, TX15, 2), h, by decide, rfl, Or.inl rfl⟩
  · exact ⟨16, (RX16, TX15, 2), h, by decide, rfl, Or.inr q1934⟩
  · exact ⟨17, (RX17, TX15, 2), h, by decide, rfl, Or.inr q1928⟩
  · exact ⟨18, (RX18, TX15, 2), h, by decide, rfl, Or.inr q1929⟩
  · exact ⟨19, (RX19, TX15, 2), h, by decide, rfl, Or.inr q1933⟩
  · exact ⟨20, (RX20, TX15, 2), h, by decide, rfl, Or.inr q1931⟩
  · exact ⟨21, (RX21, TX15, 2), h, by decide, rfl, Or.inr q1932⟩
  · exact ⟨22, (RX22, TX15, 2), h, by decide, rfl, Or.inr q1930⟩
theorem pm_bo_ok {G : pm_M → Prop} : ∀ S x, G S → pm_bd S x → ∃ (ci : Nat) (r : vw_C), (pm_hd S x).1 = ci ∧ ci < 50 ∧ pm_cl[ci]? = some r ∧ (r.1 = "java/lang/Object" ∨ Cond.castable r.1 "java/lang/Object" ∈ lw_tbl) := by
  intro S x _ hb
  have hb1 := hb.1
  have hb2 := hb.2
  rcases (show (pm_hd S x).1 = 15 ∨ (pm_hd S x).1 = 16 ∨ (pm_hd S x).1 = 17 ∨ (pm_hd S x).1 = 18 ∨ (pm_hd S x).1 = 19 ∨ (pm_hd S x).1 = 20 ∨ (pm_hd S x).1 = 21 ∨ (pm_hd S x).1 = 22 by omega) with h | h | h | h | h | h | h | h
  · exact ⟨15, (RX15, TX15, 2), h, by decide, rfl, Or.inr q1956⟩
  · exact ⟨16, (RX16, TX15, 2), h, by decide, rfl, Or.inr q1949⟩
  · exact ⟨17, (RX17, TX15, 2), h, by decide, rfl, Or.inr q1950⟩
  · exact ⟨18, (RX18, TX15, 2), h, by decide, rfl, Or.inr q1951⟩
  · exact ⟨19, (RX19, TX15, 2), h, by decide, rfl, Or.inr q1952⟩
  · exact ⟨20, (RX20, TX15, 2), h, by decide, rfl, Or.inr q1953⟩
  · exact ⟨21, (RX21, TX15, 2), h, by decide, rfl, Or.inr q1954⟩
  · exact ⟨22, (RX22, TX15, 2), h, by decide, rfl, Or.inr q1955⟩
theorem pm_dfX0 : ∀ j t, (pm_ft 0)[j]? = some t → defaultValue (tyX0 j) = (if t = 0 then Value.int 0 else if t = 1 then .long 0 else .null) := by
  intro j t h
  have hj : j < 36 := (List.getElem?_eq_some_iff.mp h).1
  have key : ∀ j, j < 36 → ∀ t, (pm_ft 0)[j]? = some t → defaultValue (tyX0 j) = (if t = 0 then Value.int 0 else if t = 1 then .long 0 else .null) := by
    intro j hj
    match j, hj with
    | 0, _ => intro t h; cases h; rfl
    | 1, _ => intro t h; cases h; rfl
    | 2, _ => intro t h; cases h; rfl
    | 3, _ => intro t h; cases h; rfl
    | 4, _ => intro t h; cases h; rfl
    | 5, _ => intro t h; cases h; rfl
    | 6, _ => intro t h; cases h; rfl
    | 7, _ => intro t h; cases h; rfl
    | 8, _ => intro t h; cases h; rfl
    | 9, _ => intro t h; cases h; rfl
    | 10, _ => intro t h; cases h; rfl
    | 11, _ => intro t h; cases h; rfl
    | 12, _ => intro t h; cases h; rfl
    | 13, _ => intro t h; cases h; rfl
    | 14, _ => intro t h; cases h; rfl
    | 15, _ => intro t h; cases h; rfl
    | 16, _ => intro t h; cases h; rfl
    | 17, _ => intro t h; cases h; rfl
    | 18, _ => intro t h; cases h; rfl
    | 19, _ => intro t h; cases h; rfl
    | 20, _ => intro t h; cases h; rfl
    | 21, _ => intro t h; cases h; rfl
    | 22, _ => intro t h; cases h; rfl
    | 23, _ => intro t h; cases h; rfl
    | 24, _ => intro t h; cases h; rfl
    | 25, _ => intro t h; cases h; rfl
    | 26, _ => intro t h; cases h; rfl
    | 27, _ => intro t h; cases h; rfl
    | 28, _ => intro t h; cases h; rfl
    | 29, _ => intro t h; cases h; rfl
    | 30, _ => intro t h; cases h; rfl
    | 31, _ => intro t h; cases h; rfl
    | 32, _ => intro t h; cases h; rfl
    | 33, _ => intro t h; cases h; rfl
    | 34, _ => intro t h; cases h; rfl
    | 35, _ => intro t h; cases h; rfl
    | j + 36, hj => omega
  exact key j hj t h
theorem pm_dfX1 : ∀ j t, (pm_ft 1)[j]? = some t → defaultValue (tyX1 j) = (if t = 0 then Value.int 0 else if t = 1 then .long 0 else .null) := by
  intro j t h
  have hj : j < 6 := (List.getElem?_eq_some_iff.mp h).1
  have key : ∀ j, j < 6 → ∀ t, (pm_ft 1)[j]? = some t → defaultValue (tyX1 j) = (if t = 0 then Value.int 0 else if t = 1 then .long 0 else .null) := by
    intro j hj
    match j, hj with
    | 0, _ => intro t h; cases h; rfl
    | 1, _ => intro t h; cases h; rfl
    | 2, _ => intro t h; cases h; rfl
    | 3, _ => intro t h; cases h; rfl
    | 4, _ => intro t h; cases h; rfl
    | 5, _ => intro t h; cases h; rfl
    | j + 6, hj => omega
  exact key j hj t h
theorem pm_dfX2 : ∀ j t, (pm_ft 2)[j]? = some t → defaultValue (tyX2 j) = (if t = 0 then Value.int 0 else if t = 1 then .long 0 else .null) := by
  intro j t h
  have hj : j < 3 := (List.getElem?_eq_some_iff.mp h).1
  have key : ∀ j, j < 3 → ∀ t, (pm_ft 2)[j]? = some t → defaultValue (tyX2 j) = (if t = 0 then Value.int 0 else if t = 1 then .long 0 else .null) := by
    intro j hj
    match j, hj with
    | 0, _ => intro t h; cases h; rfl
    | 1, _ => intro t h; cases h; rfl
    | 2, _ => intro t h; cases h; rfl
    | j + 3, hj => omega
  exact key j hj t h
theorem pm_dfX3 : ∀ j t, (pm_ft 3)[j]? = some t → defaultValue (tyX3 j) = (if t = 0 then Value.int 0 else if t = 1 then .long 0 else .null) := by
  intro j t h
  have hj : j < 6 := (List.getElem?_eq_some_iff.mp h).1
  have key : ∀ j, j < 6 → ∀ t, (pm_ft 3)[j]? = some t → defaultValue (tyX3 j) = (if t = 0 then Value.int 0 else if t = 1 then .long 0 else .null) := by
    intro j hj
    match j, hj with
    | 0, _ => intro t h; cases h; rfl
    | 1, _ => intro t h; cases h; rfl
    | 2, _ => intro t h; cases h; rfl
    | 3, _ => intro t h; cases h; rfl
    | 4, _ => intro t h; cases h; rfl
    | 5, _ => intro t h; cases h; rfl
    | j + 6, hj => omega
  exact key j hj t h
theorem pm_dfX4 : ∀ j t, (pm_ft 4)[j]? = some t → defaultValue (tyX4 j) = (if t = 0 then Value.int 0 else if t = 1 then .long 0 else .null) := by
  intro j t h
  have hj : j < 3 := (List.getElem?_eq_some_iff.mp h).1
  have key : ∀ j, j < 3 → ∀ t, (pm_ft 4)[j]? = some t → defaultValue (tyX4 j) = (if t = 0 then Value.int 0 else if t = 1 then .long 0 else .null) := by
    intro j hj
    match j, hj with
    | 0, _ => intro t h; cases h; rfl
    | 1, _ => intro t h; cases h; rfl
    | 2, _ => intro t h; cases h; rfl
    | j + 3, hj => omega
  exact key j hj t h
theorem pm_dfX5 : ∀ j t, (pm_ft 5)[j]? = some t → defaultValue (tyX5 j) = (if t = 0 then Value.int 0 else if t = 1 then .long 0 else .null) := by
  intro j t h
  have hj : j < 1 := (List.getElem?_eq_some_iff.mp h).1
  have key : ∀ j, j < 1 → ∀ t, (pm_ft 5)[j]? = some t → defaultValue (tyX5 j) = (if t = 0 then Value.int 0 else if t = 1 then .long 0 else .null) := by
    intro j hj
    match j, hj with
    | 0, _ => intro t h; cases h; rfl
    | j + 1, hj => omega
  exact key j hj t h
theorem pm_dfX6 : ∀ j t, (pm_ft 6)[j]? = some t → defaultValue (tyX6 j) = (if t = 0 then Value.int 0 else if t = 1 then .long 0 else .null) := by
  intro j t h
  have hj : j < 63 := (List.getElem?_eq_some_iff.mp h).1
  have key : ∀ j, j < 63 → ∀ t, (pm_ft 6)[j]? = some t → defaultValue (tyX6 j) = (if t = 0 then Value.int 0 else if t = 1 then .long 0 else .null) := by
    intro j hj
    match j, hj with
    | 0, _ => intro t h; cases h; rfl
    | 1, _ => intro t h; cases h; rfl
    | 2, _ => intro t h; cases h; rfl
    | 3, _ => intro t h; cases h; rfl
    | 4, _ => intro t h; cases h; rfl
    | 5, _ => intro t h; cases h; rfl
    | 6, _ => intro t h; cases h; rfl
    | 7, _ => intro t h; cases h; rfl
    | 8, _ => intro t h; cases h; rfl
    | 9, _ => intro t h; cases h; rfl
    | 10, _ => intro t h; cases h; rfl
    | 11, _ => intro t h; cases h; rfl
    | 12, _ => intro t h; cases h; rfl
    | 13, _ => intro t h; cases h; rfl
    | 14, _ => intro t h; cases h; rfl
    | 15, _ => intro t h; cases h; rfl
    | 16, _ => intro t h; cases h; rfl
    | 17, _ => intro t h; cases h; rfl
    | 18, _ => intro t h; cases h; rfl
    | 19, _ => intro t h; cases h; rfl
    | 20, _ => intro t h; cases h; rfl
    | 21, _ => intro t h; cases h; rfl
    | 22, _ => intro t h; cases h; rfl
    | 23, _ => intro t h; cases h; rfl
    | 24, _ => intro t h; cases h; rfl
    | 25, _ => intro t h; cases h; rfl
    | 26, _ => intro t h; cases h; rfl
    | 27, _ => intro t h; cases h; rfl
    | 28, _ => intro t h; cases h; rfl
    | 29, _ => intro t h; cases h; rfl
    | 30, _ => intro t h; cases h; rfl
    | 31, _ => intro t h; cases h; rfl
    | 32, _ => intro t h; cases h; rfl
    | 33, _ => intro t h; cases h; rfl
    | 34, _ => intro t h; cases h; rfl
    | 35, _ => intro t h; cases h; rfl
    | 36, _ => intro t h; cases h; rfl
    | 37, _ => intro t h; cases h; rfl
    | 38, _ => intro t h; cases h; rfl
    | 39, _ => intro t h; cases h; rfl
    | 40, _ => intro t h; cases h; rfl
    | 41, _ => intro t h; cases h; rfl
    | 42, _ => intro t h; cases h; rfl
    | 43, _ => intro t h; cases h; rfl
    | 44, _ => intro t h; cases h; rfl
    | 45, _ => intro t h; cases h; rfl
    | 46, _ => intro t h; cases h; rfl
    | 47, _ => intro t h; cases h; rfl
    | 48, _ => intro t h; cases h; rfl
    | 49, _ => intro t h; cases h; rfl
    | 50, _ => intro t h; cases h; rfl
    | 51, _ => intro t h; cases h; rfl
    | 52, _ => intro t h; cases h; rfl
    | 53, _ => intro t h; cases h; rfl
    | 54, _ => intro t h; cases h; rfl
    | 55, _ => intro t h; cases h; rfl
    | 56, _ => intro t h; cases h; rfl
    | 57, _ => intro t h; cases h; rfl
    | 58, _ => intro t h; cases h; rfl
    | 59, _ => intro t h; cases h; rfl
    | 60, _ => intro t h; cases h; rfl
    | 61, _ => intro t h; cases h; rfl
    | 62, _ => intro t h; cases h; rfl
    | j + 63, hj => omega
  exact key j hj t h
theorem pm_dfX7 : ∀ j t, (pm_ft 7)[j]? = some t → defaultValue (tyX7 j) = (if t = 0 then Value.int 0 else if t = 1 then .long 0 else .null) := by
  intro j t h
  have hj : j < 2 := (List.getElem?_eq_some_iff.mp h).1
  have key : ∀ j, j < 2 → ∀ t, (pm_ft 7)[j]? = some t → defaultValue (tyX7 j) = (if t = 0 then Value.int 0 else if t = 1 then .long 0 else .null) := by
    intro j hj
    match j, hj with
    | 0, _ => intro t h; cases h; rfl
    | 1, _ => intro t h; cases h; rfl
    | j + 2, hj => omega
  exact key j hj t h
theorem pm_dfX8 : ∀ j t, (pm_ft 8)[j]? = some t → defaultValue (tyX8 j) = (if t = 0 then Value.int 0 else if t = 1 then .long 0 else .null) := by
  intro j t h
  have hj : j < 2 := (List.getElem?_eq_some_iff.mp h).1
  have key : ∀ j, j < 2 → ∀ t, (pm_ft 8)[j]? = some t → defaultValue (tyX8 j) = (if t = 0 then Value.int 0 else if t = 1 then .long 0 else .null) := by
    intro j hj
    match j, hj with
    | 0, _ => intro t h; cases h; rfl
    | 1, _ => intro t h; cases h; rfl
    | j + 2, hj => omega
  exact key j hj t h
theorem pm_dfX9 : ∀ j t, (pm_ft 9)[j]? = some t → defaultValue (tyX9 j) = (if t = 0 then Value.int 0 else if t = 1 then .long 0 else .null) := by
  intro j t h
  have hj : j < 3 := (List.getElem?_eq_some_iff.mp h).1
  have key : ∀ j, j < 3 → ∀ t, (pm_ft 9)[j]? = some t → defaultValue (tyX9 j) = (if t = 0 then Value.int 0 else if t = 1 then .long 0 else .null) := by
    intro j hj
    match j, hj with
    | 0, _ => intro t h; cases h; rfl
    | 1, _ => intro t h; cases h; rfl
    | 2, _ => intro t h; cases h; rfl
    | j + 3, hj => omega
  exact key j hj t h
theorem pm_dfX11 : ∀ j t, (pm_ft 11)[j]? = some t → defaultValue (tyX11 j) = (if t = 0 then Value.int 0 else if t = 1 then .long 0 else .null) := by
  intro j t h
  have hj : j < 1 := (List.getElem?_eq_some_iff.mp h).1
  have key : ∀ j, j < 1 → ∀ t, (pm_ft 11)[j]? = some t → defaultValue (tyX11 j) = (if t = 0 then Value.int 0 else if t = 1 then .long 0 else .null) := by
    intro j hj
    match j, hj with
    | 0, _ => intro t h; cases h; rfl
    | j + 1, hj => omega
  exact key j hj t h
theorem pm_dfX12 : ∀ j t, (pm_ft 12)[j]? = some t → defaultValue (tyX12 j) = (if t = 0 then Value.int 0 else if t = 1 then .long 0 else .null) := by
  intro j t h
  have hj : j < 2 := (List.getElem?_eq_some_iff.mp h).1
  have key : ∀ j, j < 2 → ∀ t, (pm_ft 12)[j]? = some t → defaultValue (tyX12 j) = (if t = 0 then Value.int 0 else if t = 1 then .long 0 else .null) := by
    intro j hj
    match j, hj with
    | 0, _ => intro t h; cases h; rfl
    | 1, _ => intro t h; cases h; rfl
    | j + 2, hj => omega
  exact key j hj t h
theorem pm_dfX13 : ∀ j t, (pm_ft 13)[j]? = some t → defaultValue (tyX13 j) = (if t = 0 then Value.int 0 else if t = 1 then .long 0 else .null) := by
  intro j t h
  have hj : j < 2 := (List.getElem?_eq_some_iff.mp h).1
  have key : ∀ j, j < 2 → ∀ t, (pm_ft 13)[j]? = some t → defaultValue (tyX13 j) = (if t = 0 then Value.int 0 else if t = 1 then .long 0 else .null) := by
    intro j hj
    match j, hj with
    | 0, _ => intro t h; cases h; rfl
    | 1, _ => intro t h; cases h; rfl
    | j + 2, hj => omega
  exact key j hj t h
theorem pm_dfX14 : ∀ j t, (pm_ft 14)[j]? = some t → defaultValue (tyX14 j) = (if t = 0 then Value.int 0 else if t = 1 then .long 0 else .null) := by
  intro j t h
  have hj : j < 3 := (List.getElem?_eq_some_iff.mp h).1
  have key : ∀ j, j < 3 → ∀ t, (pm_ft 14)[j]? = some t → defaultValue (tyX14 j) = (if t = 0 then Value.int 0 else if t = 1 then .long 0 else .null) := by
    intro j hj
    match j, hj with
    | 0, _ => intro t h; cases h; rfl
    | 1, _ => intro t h; cases h; rfl
    | 2, _ => intro t h; cases h; rfl
    | j + 3, hj => omega
  exact key j hj t h
theorem pm_dfX15 : ∀ j t, (pm_ft 15)[j]? = some t → defaultValue (tyX15 j) = (if t = 0 then Value.int 0 else if t = 1 then .long 0 else .null) := by
  intro j t h
  have hj : j < 2 := (List.getElem?_eq_some_iff.mp h).1
  have key : ∀ j, j < 2 → ∀ t, (pm_ft 15)[j]? = some t → defaultValue (tyX15 j) = (if t = 0 then Value.int 0 else if t = 1 then .long 0 else .null) := by
    intro j hj
    match j, hj with
    | 0, _ => intro t h; cases h; rfl
    | 1, _ => intro t h; cases h; rfl
    | j + 2, hj => omega
  exact key j hj t h
theorem fkX0_0 : pm_Fk 0 0 2 RX0 TX0 36 "HatRank" := ⟨rfl, by decide, in_X0, by decide, rfl, rfl, rfl⟩
theorem fkX0_1 : pm_Fk 0 1 0 RX0 TX0 36 "HatRank" := ⟨rfl, by decide, in_X0, by decide, rfl, rfl, rfl⟩
theorem fkX0_2 : pm_Fk 0 2 0 RX0 TX0 36 "HatRank" := ⟨rfl, by decide, in_X0, by decide, rfl, rfl, rfl⟩
theorem fkX0_3 : pm_Fk 0 3 2 RX0 TX0 36 "HatRank" := ⟨rfl, by decide, in_X0, by decide, rfl, rfl, rfl⟩
theorem fkX0_4 : pm_Fk 0 4 0 RX0 TX0 36 "HatRank" := ⟨rfl, by decide, in_X0, by decide, rfl, rfl, rfl⟩
theorem fkX0_5 : pm_Fk 0 5 2 RX0 TX0 36 "HatRank" := ⟨rfl, by decide, in_X0, by decide, rfl, rfl, rfl⟩
theorem fkX0_6 : pm_Fk 0 6 0 RX0 TX0 36 "HatRank" := ⟨rfl, by decide, in_X0, by decide, rfl, rfl, rfl⟩
theorem fkX0_7 : pm_Fk 0 7 2 RX0 TX0 36 "HatRank" := ⟨rfl, by decide, in_X0, by decide, rfl, rfl, rfl⟩
theorem fkX0_8 : pm_Fk 0 8 2 RX0 TX0 36 "HatRank" := ⟨rfl, by decide, in_X0, by decide, rfl, rfl, rfl⟩
theorem fkX0_9 : pm_Fk 0 9 0 RX0 TX0 36 "HatRank" := ⟨rfl, by decide, in_X0, by decide, rfl, rfl, rfl⟩
theorem fkX0_10 : pm_Fk 0 10 0 RX0 TX0 36 "HatRank" := ⟨rfl, by decide, in_X0, by decide, rfl, rfl, rfl⟩
theorem fkX0_11 : pm_Fk 0 11 2 RX0 TX0 36 "HatRank" := ⟨rfl, by decide, in_X0, by decide, rfl, rfl, rfl⟩
theorem fkX0_12 : pm_Fk 0 12 0 RX0 TX0 36 "HatRank" := ⟨rfl, by decide, in_X0, by decide, rfl, rfl, rfl⟩
theorem fkX0_13 : pm_Fk 0 13 2 RX0 TX0 36 "HatRank" := ⟨rfl, by decide, in_X0, by decide, rfl, rfl, rfl⟩
theorem fkX0_14 : pm_Fk 0 14 0 RX0 TX0 36 "HatRank" := ⟨rfl, by decide, in_X0, by decide, rfl, rfl, rfl⟩
theorem fkX0_15 : pm_Fk 0 15 2 RX0 TX0 36 "HatRank" := ⟨rfl, by decide, in_X0, by decide, rfl, rfl, rfl⟩
theorem fkX0_16 : pm_Fk 0 16 2 RX0 TX0 36 "HatRank" := ⟨rfl, by decide, in_X0, by decide, rfl, rfl, rfl⟩
theorem fkX0_17 : pm_Fk 0 17 0 RX0 TX0 36 "HatRank" := ⟨rfl, by decide, in_X0, by decide, rfl, rfl, rfl⟩
theorem fkX0_18 : pm_Fk 0 18 2 RX0 TX0 36 "HatRank" := ⟨rfl, by decide, in_X0, by decide, rfl, rfl, rfl⟩
theorem fkX0_19 : pm_Fk 0 19 0 RX0 TX0 36 "HatRank" := ⟨rfl, by decide, in_X0, by decide, rfl, rfl, rfl⟩
theorem fkX0_20 : pm_Fk 0 20 0 RX0 TX0 36 "HatRank" := ⟨rfl, by decide, in_X0, by decide, rfl, rfl, rfl⟩
theorem fkX0_21 : pm_Fk 0 21 2 RX0 TX0 36 "HatRank" := ⟨rfl, by decide, in_X0, by decide, rfl, rfl, rfl⟩
theorem fkX0_22 : pm_Fk 0 22 2 RX0 TX0 36 "HatRank" := ⟨rfl, by decide, in_X0, by decide, rfl, rfl, rfl⟩
theorem fkX0_23 : pm_Fk 0 23 1 RX0 TX0 36 "HatRank" := ⟨rfl, by decide, in_X0, by decide, rfl, rfl, rfl⟩
theorem fkX0_24 : pm_Fk 0 24 1 RX0 TX0 36 "HatRank" := ⟨rfl, by decide, in_X0, by decide, rfl, rfl, rfl⟩
theorem fkX0_25 : pm_Fk 0 25 0 RX0 TX0 36 "HatRank" := ⟨rfl, by decide, in_X0, by decide, rfl, rfl, rfl⟩
theorem fkX0_26 : pm_Fk 0 26 0 RX0 TX0 36 "HatRank" := ⟨rfl, by decide, in_X0, by decide, rfl, rfl, rfl⟩
theorem fkX0_27 : pm_Fk 0 27 0 RX0 TX0 36 "HatRank" := ⟨rfl, by decide, in_X0, by decide, rfl, rfl, rfl⟩
theorem fkX0_28 : pm_Fk 0 28 0 RX0 TX0 36 "HatRank" := ⟨rfl, by decide, in_X0, by decide, rfl, rfl, rfl⟩
theorem fkX0_29 : pm_Fk 0 29 0 RX0 TX0 36 "HatRank" := ⟨rfl, by decide, in_X0, by decide, rfl, rfl, rfl⟩
theorem fkX0_30 : pm_Fk 0 30 2 RX0 TX0 36 "HatRank" := ⟨rfl, by decide, in_X0, by decide, rfl, rfl, rfl⟩
theorem fkX0_31 : pm_Fk 0 31 2 RX0 TX0 36 "HatRank" := ⟨rfl, by decide, in_X0, by decide, rfl, rfl, rfl⟩
theorem fkX0_32 : pm_Fk 0 32 0 RX0 TX0 36 "HatRank" := ⟨rfl, by decide, in_X0, by decide, rfl, rfl, rfl⟩
theorem fkX0_33 : pm_Fk 0 33 2 RX0 TX0 36 "HatRank" := ⟨rfl, by decide, in_X0, by decide, rfl, rfl, rfl⟩
theorem fkX0_34 : pm_Fk 0 34 0 RX0 TX0 36 "HatRank" := ⟨rfl, by decide, in_X0, by decide, rfl, rfl, rfl⟩
theorem fkX0_35 : pm_Fk 0 35 2 RX0 TX0 36 "HatRank" := ⟨rfl, by decide, in_X0, by decide, rfl, rfl, rfl⟩
theorem fkX1_0 : pm_Fk 1 0 2 RX1 TX1 6 "java/lang/Throwable" := ⟨rfl, by decide, in_X1, by decide, rfl, rfl, rfl⟩
theorem fkX1_1 : pm_Fk 1 1 2 RX1 TX1 6 "java/lang/Throwable" := ⟨rfl, by decide, in_X1, by decide, rfl, rfl, rfl⟩
theorem fkX1_2 : pm_Fk 1 2 2 RX1 TX1 6 "java/lang/Throwable" := ⟨rfl, by decide, in_X1, by decide, rfl, rfl, rfl⟩
theorem fkX1_3 : pm_Fk 1 3 2 RX1 TX1 6 "java/lang/Throwable" := ⟨rfl, by decide, in_X1, by decide, rfl, rfl, rfl⟩
theorem fkX1_4 : pm_Fk 1 4 2 RX1 TX1 6 "java/lang/Throwable" := ⟨rfl, by decide, in_X1, by decide, rfl, rfl, rfl⟩
theorem fkX1_5 : pm_Fk 1 5 0 RX1 TX1 6 "java/lang/Throwable" := ⟨rfl, by decide, in_X1, by decide, rfl, rfl, rfl⟩
theorem fkX11_0 : pm_Fk 11 0 0 RX11 TX11 1 "HatRank$Figure" := ⟨rfl, by decide, in_X11, by decide, rfl, rfl, rfl⟩
theorem fkX12_0 : pm_Fk 12 0 0 RX12 TX12 2 "HatRank$Named" := ⟨rfl, by decide, in_X12, by decide, rfl, rfl, rfl⟩
theorem fkX12_1 : pm_Fk 12 1 2 RX12 TX12 2 "HatRank$Named" := ⟨rfl, by decide, in_X12, by decide, rfl, rfl, rfl⟩
theorem fkX13_0 : pm_Fk 13 0 0 RX13 TX13 2 "HatRank$Signed" := ⟨rfl, by decide, in_X13, by decide, rfl, rfl, rfl⟩
theorem fkX13_1 : pm_Fk 13 1 2 RX13 TX13 2 "HatRank$Signed" := ⟨rfl, by decide, in_X13, by decide, rfl, rfl, rfl⟩
theorem fkX14_0 : pm_Fk 14 0 0 RX14 TX14 3 "HatRank$Both" := ⟨rfl, by decide, in_X14, by decide, rfl, rfl, rfl⟩
theorem fkX14_1 : pm_Fk 14 1 2 RX14 TX14 3 "HatRank$Both" := ⟨rfl, by decide, in_X14, by decide, rfl, rfl, rfl⟩
theorem fkX14_2 : pm_Fk 14 2 2 RX14 TX14 3 "HatRank$Both" := ⟨rfl, by decide, in_X14, by decide, rfl, rfl, rfl⟩
theorem fkX15_0 : pm_Fk 15 0 0 RX15 TX15 2 "HatRank$Body" := ⟨rfl, by decide, in_X15, by decide, rfl, rfl, rfl⟩
theorem fkX15_1 : pm_Fk 15 1 2 RX15 TX15 2 "HatRank$Body" := ⟨rfl, by decide, in_X15, by decide, rfl, rfl, rfl⟩
theorem in15_X16 : ∀ w ∈ u_ws RX16 TX15 2, w ∈ lw_all := fun w h => in_X16 w (by rcases List.mem_map.mp h with ⟨k, hk, rfl⟩; have hk := List.mem_range.mp hk; match k, hk with | 0, _ => exact List.mem_map.mpr ⟨0, by decide, rfl⟩ | 1, _ => exact List.mem_map.mpr ⟨1, by decide, rfl⟩)
theorem fkX16_0 : pm_Fk 16 0 0 RX16 TX15 2 "HatRank$Body" := ⟨rfl, by decide, in15_X16, by decide, rfl, rfl, rfl⟩
theorem fkX16_1 : pm_Fk 16 1 2 RX16 TX15 2 "HatRank$Body" := ⟨rfl, by decide, in15_X16, by decide, rfl, rfl, rfl⟩
theorem in15_X17 : ∀ w ∈ u_ws RX17 TX15 2, w ∈ lw_all := fun w h => in_X17 w (by rcases List.mem_map.mp h with ⟨k, hk, rfl⟩; have hk := List.mem_range.mp hk; match k, hk with | 0, _ => exact List.mem_map.mpr ⟨0, by decide, rfl⟩ | 1, _ => exact List.mem_map.mpr ⟨1, by decide, rfl⟩)
theorem fkX17_0 : pm_Fk 17 0 0 RX17 TX15 2 "HatRank$Body" := ⟨rfl, by decide, in15_X17, by decide, rfl, rfl, rfl⟩
theorem fkX17_1 : pm_Fk 17 1 2 RX17 TX15 2 "HatRank$Body" := ⟨rfl, by decide, in15_X17, by decide, rfl, rfl, rfl⟩
theorem in15_X18 : ∀ w ∈ u_ws RX18 TX15 2, w ∈ lw_all := fun w h => in_X18 w (by rcases List.mem_map.mp h with ⟨k, hk, rfl⟩; have hk := List.mem_range.mp hk; match k, hk with | 0, _ => exact List.mem_map.mpr ⟨0, by decide, rfl⟩ | 1, _ => exact List.mem_map.mpr ⟨1, by decide, rfl⟩)
theorem fkX18_0 : pm_Fk 18 0 0 RX18 TX15 2 "HatRank$Body" := ⟨rfl, by decide, in15_X18, by decide, rfl, rfl, rfl⟩
theorem fkX18_1 : pm_Fk 18 1 2 RX18 TX15 2 "HatRank$Body" := ⟨rfl, by decide, in15_X18, by decide, rfl, rfl, rfl⟩
theorem in15_X19 : ∀ w ∈ u_ws RX19 TX15 2, w ∈ lw_all := fun w h => in_X19 w (by rcases List.mem_map.mp h with ⟨k, hk, rfl⟩; have hk := List.mem_range.mp hk; match k, hk with | 0, _ => exact List.mem_map.mpr ⟨0, by decide, rfl⟩ | 1, _ => exact List.mem_map.mpr ⟨1, by decide, rfl⟩)
theorem fkX19_0 : pm_Fk 19 0 0 RX19 TX15 2 "HatRank$Body" := ⟨rfl, by decide, in15_X19, by decide, rfl, rfl, rfl⟩
theorem fkX19_1 : pm_Fk 19 1 2 RX19 TX15 2 "HatRank$Body" := ⟨rfl, by decide, in15_X19, by decide, rfl, rfl, rfl⟩
theorem fkX2_0 : pm_Fk 2 0 2 RX2 TX2 3 "HatRank$Town" := ⟨rfl, by decide, in_X2, by decide, rfl, rfl, rfl⟩
theorem fkX2_1 : pm_Fk 2 1 2 RX2 TX2 3 "HatRank$Town" := ⟨rfl, by decide, in_X2, by decide, rfl, rfl, rfl⟩
theorem fkX2_2 : pm_Fk 2 2 2 RX2 TX2 3 "HatRank$Town" := ⟨rfl, by decide, in_X2, by decide, rfl, rfl, rfl⟩
theorem in15_X20 : ∀ w ∈ u_ws RX20 TX15 2, w ∈ lw_all := fun w h => in_X20 w (by rcases List.mem_map.mp h with ⟨k, hk, rfl⟩; have hk := List.mem_range.mp hk; match k, hk with | 0, _ => exact List.mem_map.mpr ⟨0, by decide, rfl⟩ | 1, _ => exact List.mem_map.mpr ⟨1, by decide, rfl⟩)
theorem fkX20_0 : pm_Fk 20 0 0 RX20 TX15 2 "HatRank$Body" := ⟨rfl, by decide, in15_X20, by decide, rfl, rfl, rfl⟩
theorem fkX20_1 : pm_Fk 20 1 2 RX20 TX15 2 "HatRank$Body" := ⟨rfl, by decide, in15_X20, by decide, rfl, rfl, rfl⟩
theorem in15_X21 : ∀ w ∈ u_ws RX21 TX15 2, w ∈ lw_all := fun w h => in_X21 w (by rcases List.mem_map.mp h with ⟨k, hk, rfl⟩; have hk := List.mem_range.mp hk; match k, hk with | 0, _ => exact List.mem_map.mpr ⟨0, by decide, rfl⟩ | 1, _ => exact List.mem_map.mpr ⟨1, by decide, rfl⟩)
theorem fkX21_0 : pm_Fk 21 0 0 RX21 TX15 2 "HatRank$Body" := ⟨rfl, by decide, in15_X21, by decide, rfl, rfl, rfl⟩
theorem fkX21_1 : pm_Fk 21 1 2 RX21 TX15 2 "HatRank$Body" := ⟨rfl, by decide, in15_X21, by decide, rfl, rfl, rfl⟩
theorem in15_X22 : ∀ w ∈ u_ws RX22 TX15 2, w ∈ lw_all := fun w h => in_X22 w (by rcases List.mem_map.mp h with ⟨k, hk, rfl⟩; have hk := List.mem_range.mp hk; match k, hk with | 0, _ => exact List.mem_map.mpr ⟨0, by decide, rfl⟩ | 1, _ => exact List.mem_map.mpr ⟨1, by decide, rfl⟩)
theorem fkX22_0 : pm_Fk 22 0 0 RX22 TX15 2 "HatRank$Body" := ⟨rfl, by decide, in15_X22, by decide, rfl, rfl, rfl⟩
theorem fkX22_1 : pm_Fk 22 1 2 RX22 TX15 2 "HatRank$Body" := ⟨rfl, by decide, in15_X22, by decide, rfl, rfl, rfl⟩
theorem fkX3_0 : pm_Fk 3 0 2 RX3 TX3 6 "java/lang/Throwable" := ⟨rfl, by decide, in_X3, by decide, rfl, rfl, rfl⟩
theorem fkX3_1 : pm_Fk 3 1 2 RX3 TX3 6 "java/lang/Throwable" := ⟨rfl, by decide, in_X3, by decide, rfl, rfl, rfl⟩
theorem fkX3_2 : pm_Fk 3 2 2 RX3 TX3 6 "java/lang/Throwable" := ⟨rfl, by decide, in_X3, by decide, rfl, rfl, rfl⟩
theorem fkX3_3 : pm_Fk 3 3 2 RX3 TX3 6 "java/lang/Throwable" := ⟨rfl, by decide, in_X3, by decide, rfl, rfl, rfl⟩
theorem fkX3_4 : pm_Fk 3 4 2 RX3 TX3 6 "java/lang/Throwable" := ⟨rfl, by decide, in_X3, by decide, rfl, rfl, rfl⟩
theorem fkX3_5 : pm_Fk 3 5 0 RX3 TX3 6 "java/lang/Throwable" := ⟨rfl, by decide, in_X3, by decide, rfl, rfl, rfl⟩
theorem fkX4_0 : pm_Fk 4 0 2 RX4 TX4 3 "HatRank$Change" := ⟨rfl, by decide, in_X4, by decide, rfl, rfl, rfl⟩
theorem fkX4_1 : pm_Fk 4 1 0 RX4 TX4 3 "HatRank$Change" := ⟨rfl, by decide, in_X4, by decide, rfl, rfl, rfl⟩
theorem fkX4_2 : pm_Fk 4 2 0 RX4 TX4 3 "HatRank$Change" := ⟨rfl, by decide, in_X4, by decide, rfl, rfl, rfl⟩
theorem fkX5_0 : pm_Fk 5 0 0 RX5 TX5 1 "HatRank$Held" := ⟨rfl, by decide, in_X5, by decide, rfl, rfl, rfl⟩
theorem fkX6_0 : pm_Fk 6 0 0 RX6 TX6 63 "HatRankModel" := ⟨rfl, by decide, in_X6, by decide, rfl, rfl, rfl⟩
theorem fkX6_1 : pm_Fk 6 1 0 RX6 TX6 63 "HatRankModel" := ⟨rfl, by decide, in_X6, by decide, rfl, rfl, rfl⟩
theorem fkX6_2 : pm_Fk 6 2 2 RX6 TX6 63 "HatRankModel" := ⟨rfl, by decide, in_X6, by decide, rfl, rfl, rfl⟩
theorem fkX6_3 : pm_Fk 6 3 0 RX6 TX6 63 "HatRankModel" := ⟨rfl, by decide, in_X6, by decide, rfl, rfl, rfl⟩
theorem fkX6_4 : pm_Fk 6 4 0 RX6 TX6 63 "HatRankModel" := ⟨rfl, by decide, in_X6, by decide, rfl, rfl, rfl⟩
theorem fkX6_5 : pm_Fk 6 5 2 RX6 TX6 63 "HatRankModel" := ⟨rfl, by decide, in_X6, by decide, rfl, rfl, rfl⟩
theorem fkX6_6 : pm_Fk 6 6 2 RX6 TX6 63 "HatRankModel" := ⟨rfl, by decide, in_X6, by decide, rfl, rfl, rfl⟩
theorem fkX6_7 : pm_Fk 6 7 2 RX6 TX6 63 "HatRankModel" := ⟨rfl, by decide, in_X6, by decide, rfl, rfl, rfl⟩
theorem fkX6_8 : pm_Fk 6 8 0 RX6 TX6 63 "HatRankModel" := ⟨rfl, by decide, in_X6, by decide, rfl, rfl, rfl⟩
theorem fkX6_9 : pm_Fk 6 9 2 RX6 TX6 63 "HatRankModel" := ⟨rfl, by decide, in_X6, by decide, rfl, rfl, rfl⟩
theorem fkX6_10 : pm_Fk 6 10 2 RX6 TX6 63 "HatRankModel" := ⟨rfl, by decide, in_X6, by decide, rfl, rfl, rfl⟩
theorem fkX6_11 : pm_Fk 6 11 0 RX6 TX6 63 "HatRankModel" := ⟨rfl, by decide, in_X6, by decide, rfl, rfl, rfl⟩
theorem fkX6_12 : pm_Fk 6 12 2 RX6 TX6 63 "HatRankModel" := ⟨rfl, by decide, in_X6, by decide, rfl, rfl, rfl⟩
theorem fkX6_13 : pm_Fk 6 13 2 RX6 TX6 63 "HatRankModel" := ⟨rfl, by decide, in_X6, by decide, rfl, rfl, rfl⟩
theorem fkX6_14 : pm_Fk 6 14 2 RX6 TX6 63 "HatRankModel" := ⟨rfl, by decide, in_X6, by decide, rfl, rfl, rfl⟩
theorem fkX6_15 : pm_Fk 6 15 2 RX6 TX6 63 "HatRankModel" := ⟨rfl, by decide, in_X6, by decide, rfl, rfl, rfl⟩
theorem fkX6_16 : pm_Fk 6 16 0 RX6 TX6 63 "HatRankModel" := ⟨rfl, by decide, in_X6, by decide, rfl, rfl, rfl⟩
theorem fkX6_17 : pm_Fk 6 17 0 RX6 TX6 63 "HatRankModel" := ⟨rfl, by decide, in_X6, by decide, rfl, rfl, rfl⟩
theorem fkX6_18 : pm_Fk 6 18 2 RX6 TX6 63 "HatRankModel" := ⟨rfl, by decide, in_X6, by decide, rfl, rfl, rfl⟩
theorem fkX6_19 : pm_Fk 6 19 2 RX6 TX6 63 "HatRankModel" := ⟨rfl, by decide, in_X6, by decide, rfl, rfl, rfl⟩
theorem fkX6_20 : pm_Fk 6 20 2 RX6 TX6 63 "HatRankModel" := ⟨rfl, by decide, in_X6, by decide, rfl, rfl, rfl⟩
theorem fkX6_21 : pm_Fk 6 21 2 RX6 TX6 63 "HatRankModel" := ⟨rfl, by decide, in_X6, by decide, rfl, rfl, rfl⟩
theorem fkX6_22 : pm_Fk 6 22 2 RX6 TX6 63 "HatRankModel" := ⟨rfl, by decide, in_X6, by decide, rfl, rfl, rfl⟩
theorem fkX6_23 : pm_Fk 6 23 0 RX6 TX6 63 "HatRankModel" := ⟨rfl, by decide, in_X6, by decide, rfl, rfl, rfl⟩
theorem fkX6_24 : pm_Fk 6 24 0 RX6 TX6 63 "HatRankModel" := ⟨rfl, by decide, in_X6, by decide, rfl, rfl, rfl⟩
theorem fkX6_25 : pm_Fk 6 25 0 RX6 TX6 63 "HatRankModel" := ⟨rfl, by decide, in_X6, by decide, rfl, rfl, rfl⟩
theorem fkX6_26 : pm_Fk 6 26 0 RX6 TX6 63 "HatRankModel" := ⟨rfl, by decide, in_X6, by decide, rfl, rfl, rfl⟩
theorem fkX6_27 : pm_Fk 6 27 0 RX6 TX6 63 "HatRankModel" := ⟨rfl, by decide, in_X6, by decide, rfl, rfl, rfl⟩
theorem fkX6_28 : pm_Fk 6 28 2 RX6 TX6 63 "HatRankModel" := ⟨rfl, by decide, in_X6, by decide, rfl, rfl, rfl⟩
theorem fkX6_29 : pm_Fk 6 29 2 RX6 TX6 63 "HatRankModel" := ⟨rfl, by decide, in_X6, by decide, rfl, rfl, rfl⟩
theorem fkX6_30 : pm_Fk 6 30 2 RX6 TX6 63 "HatRankModel" := ⟨rfl, by decide, in_X6, by decide, rfl, rfl, rfl⟩
theorem fkX6_31 : pm_Fk 6 31 2 RX6 TX6 63 "HatRankModel" := ⟨rfl, by decide, in_X6, by decide, rfl, rfl, rfl⟩
theorem fkX6_32 : pm_Fk 6 32 2 RX6 TX6 63 "HatRankModel" := ⟨rfl, by decide, in_X6, by decide, rfl, rfl, rfl⟩
theorem fkX6_33 : pm_Fk 6 33 2 RX6 TX6 63 "HatRankModel" := ⟨rfl, by decide, in_X6, by decide, rfl, rfl, rfl⟩
theorem fkX6_34 : pm_Fk 6 34 2 RX6 TX6 63 "HatRankModel" := ⟨rfl, by decide, in_X6, by decide, rfl, rfl, rfl⟩
theorem fkX6_35 : pm_Fk 6 35 0 RX6 TX6 63 "HatRankModel" := ⟨rfl, by decide, in_X6, by decide, rfl, rfl, rfl⟩
theorem fkX6_36 : pm_Fk 6 36 2 RX6 TX6 63 "HatRankModel" := ⟨rfl, by decide, in_X6, by decide, rfl, rfl, rfl⟩
theorem fkX6_37 : pm_Fk 6 37 2 RX6 TX6 63 "HatRankModel" := ⟨rfl, by decide, in_X6, by decide, rfl, rfl, rfl⟩
theorem fkX6_38 : pm_Fk 6 38 2 RX6 TX6 63 "HatRankModel" := ⟨rfl, by decide, in_X6, by decide, rfl, rfl, rfl⟩
theorem fkX6_39 : pm_Fk 6 39 2 RX6 TX6 63 "HatRankModel" := ⟨rfl, by decide, in_X6, by decide, rfl, rfl, rfl⟩
theorem fkX6_40 : pm_Fk 6 40 0 RX6 TX6 63 "HatRankModel" := ⟨rfl, by decide, in_X6, by decide, rfl, rfl, rfl⟩
theorem fkX6_41 : pm_Fk 6 41 2 RX6 TX6 63 "HatRankModel" := ⟨rfl, by decide, in_X6, by decide, rfl, rfl, rfl⟩
theorem fkX6_42 : pm_Fk 6 42 2 RX6 TX6 63 "HatRankModel" := ⟨rfl, by decide, in_X6, by decide, rfl, rfl, rfl⟩
theorem fkX6_43 : pm_Fk 6 43 2 RX6 TX6 63 "HatRankModel" := ⟨rfl, by decide, in_X6, by decide, rfl, rfl, rfl⟩
theorem fkX6_44 : pm_Fk 6 44 0 RX6 TX6 63 "HatRankModel" := ⟨rfl, by decide, in_X6, by decide, rfl, rfl, rfl⟩
theorem fkX6_45 : pm_Fk 6 45 0 RX6 TX6 63 "HatRankModel" := ⟨rfl, by decide, in_X6, by decide, rfl, rfl, rfl⟩
theorem fkX6_46 : pm_Fk 6 46 1 RX6 TX6 63 "HatRankModel" := ⟨rfl, by decide, in_X6, by decide, rfl, rfl, rfl⟩
theorem fkX6_47 : pm_Fk 6 47 1 RX6 TX6 63 "HatRankModel" := ⟨rfl, by decide, in_X6, by decide, rfl, rfl, rfl⟩
theorem fkX6_48 : pm_Fk 6 48 0 RX6 TX6 63 "HatRankModel" := ⟨rfl, by decide, in_X6, by decide, rfl, rfl, rfl⟩
theorem fkX6_49 : pm_Fk 6 49 0 RX6 TX6 63 "HatRankModel" := ⟨rfl, by decide, in_X6, by decide, rfl, rfl, rfl⟩
theorem fkX6_50 : pm_Fk 6 50 0 RX6 TX6 63 "HatRankModel" := ⟨rfl, by decide, in_X6, by decide, rfl, rfl, rfl⟩
theorem fkX6_51 : pm_Fk 6 51 0 RX6 TX6 63 "HatRankModel" := ⟨rfl, by decide, in_X6, by decide, rfl, rfl, rfl⟩
theorem fkX6_52 : pm_Fk 6 52 2 RX6 TX6 63 "HatRankModel" := ⟨rfl, by decide, in_X6, by decide, rfl, rfl, rfl⟩
theorem fkX6_53 : pm_Fk 6 53 2 RX6 TX6 63 "HatRankModel" := ⟨rfl, by decide, in_X6, by decide, rfl, rfl, rfl⟩
theorem fkX6_54 : pm_Fk 6 54 2 RX6 TX6 63 "HatRankModel" := ⟨rfl, by decide, in_X6, by decide, rfl, rfl, rfl⟩
theorem fkX6_55 : pm_Fk 6 55 0 RX6 TX6 63 "HatRankModel" := ⟨rfl, by decide, in_X6, by decide, rfl, rfl, rfl⟩
theorem fkX6_56 : pm_Fk 6 56 2 RX6 TX6 63 "HatRankModel" := ⟨rfl, by decide, in_X6, by decide, rfl, rfl, rfl⟩
theorem fkX6_57 : pm_Fk 6 57 0 RX6 TX6 63 "HatRankModel" := ⟨rfl, by decide, in_X6, by decide, rfl, rfl, rfl⟩
theorem fkX6_58 : pm_Fk 6 58 2 RX6 TX6 63 "HatRankModel" := ⟨rfl, by decide, in_X6, by decide, rfl, rfl, rfl⟩
theorem fkX6_59 : pm_Fk 6 59 2 RX6 TX6 63 "HatRankModel" := ⟨rfl, by decide, in_X6, by decide, rfl, rfl, rfl⟩
theorem fkX6_60 : pm_Fk 6 60 2 RX6 TX6 63 "HatRankModel" := ⟨rfl, by decide, in_X6, by decide, rfl, rfl, rfl⟩
theorem fkX6_61 : pm_Fk 6 61 2 RX6 TX6 63 "HatRankModel" := ⟨rfl, by decide, in_X6, by decide, rfl, rfl, rfl⟩
theorem fkX6_62 : pm_Fk 6 62 2 RX6 TX6 63 "HatRankModel" := ⟨rfl, by decide, in_X6, by decide, rfl, rfl, rfl⟩
theorem fkX7_0 : pm_Fk 7 0 2 RX7 TX7 2 "HatRank$Place" := ⟨rfl, by decide, in_X7, by decide, rfl, rfl, rfl⟩
theorem fkX7_1 : pm_Fk 7 1 0 RX7 TX7 2 "HatRank$Place" := ⟨rfl, by decide, in_X7, by decide, rfl, rfl, rfl⟩
theorem fkX8_0 : pm_Fk 8 0 2 RX8 TX8 2 "HatRank$Person" := ⟨rfl, by decide, in_X8, by decide, rfl, rfl, rfl⟩
theorem fkX8_1 : pm_Fk 8 1 0 RX8 TX8 2 "HatRank$Person" := ⟨rfl, by decide, in_X8, by decide, rfl, rfl, rfl⟩
theorem fkX9_0 : pm_Fk 9 0 2 RX9 TX9 3 "HatRank$Line" := ⟨rfl, by decide, in_X9, by decide, rfl, rfl, rfl⟩
theorem fkX9_1 : pm_Fk 9 1 2 RX9 TX9 3 "HatRank$Line" := ⟨rfl, by decide, in_X9, by decide, rfl, rfl, rfl⟩
theorem fkX9_2 : pm_Fk 9 2 2 RX9 TX9 3 "HatRank$Line" := ⟨rfl, by decide, in_X9, by decide, rfl, rfl, rfl⟩
