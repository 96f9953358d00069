/-! ===== words of the narrowing ===== -/
set_option maxRecDepth 100000
theorem nd_0 : (Cond.methodLink "HatRank" 507 ⟨"HatRank$Body", "sits", "(I)I"⟩ : Cond) ∈ flatC narrow_1 := by decide +kernel
theorem nd_1 : (Cond.methodLink "HatRank$NewHat" 23 ⟨"HatRank$Body", "sits", "(I)I"⟩ : Cond) ∈ flatC narrow_1 := by decide +kernel
theorem nd_2 : (Cond.methodLink "HatRank$Strapped" 23 ⟨"HatRank$Body", "sits", "(I)I"⟩ : Cond) ∈ flatC narrow_1 := by decide +kernel
theorem nd_3 : (Cond.methodLink "HatRank$Body" 30 ⟨"HatRank$Body", "sits", "(I)I"⟩ : Cond) ∈ flatC narrow_1 := by decide +kernel
theorem nd_4 : (Cond.methodLink "HatRank$LostHat" 27 ⟨"HatRank$LostHat", "sits", "(I)I"⟩ : Cond) ∈ flatC narrow_1 := by decide +kernel
theorem nd_5 : (Cond.methodLink "HatRank" 516 ⟨"HatRank$Body", "ranks", "(I)I"⟩ : Cond) ∈ flatC narrow_1 := by decide +kernel
theorem nd_6 : (Cond.methodLink "HatRank$LostHat" 30 ⟨"HatRank$Caught", "ranks", "(I)I"⟩ : Cond) ∈ flatC narrow_1 := by decide +kernel
theorem nd_7 : (Cond.methodLink "HatRank$OldHat" 23 ⟨"HatRank$Strapped", "ranks", "(I)I"⟩ : Cond) ∈ flatC narrow_1 := by decide +kernel
theorem nd_8 : (Cond.sameMethod "HatRank$Body" "HatRank$Sits" "sits" "(I)I" : Cond) ∈ flatC narrow_1 := by decide +kernel
theorem nd_9 : (Cond.sameMethod "HatRank$LostHat" "HatRank$Sits" "sits" "(I)I" : Cond) ∈ flatC narrow_1 := by decide +kernel
theorem nd_10 : (Cond.sameMethod "HatRank$Body" "HatRank$Ranks" "ranks" "(I)I" : Cond) ∈ flatC narrow_1 := by decide +kernel
theorem nd_11 : (Cond.sameMethod "HatRank$Caught" "HatRank$Ranks" "ranks" "(I)I" : Cond) ∈ flatC narrow_1 := by decide +kernel
theorem nd_12 : (Cond.sameMethod "HatRank$Strapped" "HatRank$Ranks" "ranks" "(I)I" : Cond) ∈ flatC narrow_1 := by decide +kernel
theorem nd_13 : (Cond.landsInDefault "HatRank$Blown" ⟨"HatRank$Body", "sits", "(I)I"⟩ ⟨"HatRank$Sits", "sits", "(I)I"⟩ : Cond) ∈ flatC narrow_1 := by decide +kernel
theorem nd_14 : (Cond.landsInDefault "HatRank$Body" ⟨"HatRank$Body", "sits", "(I)I"⟩ ⟨"HatRank$Sits", "sits", "(I)I"⟩ : Cond) ∈ flatC narrow_1 := by decide +kernel
theorem nd_15 : (Cond.landsInDefault "HatRank$Caught" ⟨"HatRank$Body", "sits", "(I)I"⟩ ⟨"HatRank$Sits", "sits", "(I)I"⟩ : Cond) ∈ flatC narrow_1 := by decide +kernel
theorem nd_16 : (Cond.landsInDefault "HatRank$LostHat" ⟨"HatRank$Body", "sits", "(I)I"⟩ ⟨"HatRank$Sits", "sits", "(I)I"⟩ : Cond) ∈ flatC narrow_1 := by decide +kernel
theorem nd_17 : (Cond.landsInDefault "HatRank$LostHat" ⟨"HatRank$LostHat", "sits", "(I)I"⟩ ⟨"HatRank$Sits", "sits", "(I)I"⟩ : Cond) ∈ flatC narrow_1 := by decide +kernel
theorem nd_18 : (Cond.landsInDefault "HatRank$Blown" ⟨"HatRank$Body", "ranks", "(I)I"⟩ ⟨"HatRank$Ranks", "ranks", "(I)I"⟩ : Cond) ∈ flatC narrow_1 := by decide +kernel
theorem nd_19 : (Cond.landsInDefault "HatRank$Body" ⟨"HatRank$Body", "ranks", "(I)I"⟩ ⟨"HatRank$Ranks", "ranks", "(I)I"⟩ : Cond) ∈ flatC narrow_1 := by decide +kernel
theorem nd_20 : (Cond.landsInDefault "HatRank$Caught" ⟨"HatRank$Body", "ranks", "(I)I"⟩ ⟨"HatRank$Ranks", "ranks", "(I)I"⟩ : Cond) ∈ flatC narrow_1 := by decide +kernel
theorem nd_21 : (Cond.landsInDefault "HatRank$Crown" ⟨"HatRank$Body", "ranks", "(I)I"⟩ ⟨"HatRank$Ranks", "ranks", "(I)I"⟩ : Cond) ∈ flatC narrow_1 := by decide +kernel
theorem nd_22 : (Cond.landsInDefault "HatRank$Caught" ⟨"HatRank$Caught", "ranks", "(I)I"⟩ ⟨"HatRank$Ranks", "ranks", "(I)I"⟩ : Cond) ∈ flatC narrow_1 := by decide +kernel
theorem nd_23 : (Cond.landsInDefault "HatRank$NewHat" ⟨"HatRank$Body", "ranks", "(I)I"⟩ ⟨"HatRank$Ranks", "ranks", "(I)I"⟩ : Cond) ∈ flatC narrow_1 := by decide +kernel
theorem nd_24 : (Cond.landsInDefault "HatRank$Strapped" ⟨"HatRank$Strapped", "ranks", "(I)I"⟩ ⟨"HatRank$Ranks", "ranks", "(I)I"⟩ : Cond) ∈ flatC narrow_1 := by decide +kernel
theorem nd_25 : (Cond.landsInDefault "HatRank$Strapped" ⟨"HatRank$Body", "ranks", "(I)I"⟩ ⟨"HatRank$Ranks", "ranks", "(I)I"⟩ : Cond) ∈ flatC narrow_1 := by decide +kernel
def sv_falls : Nat → pm_Mt := fun k => match k with
  | 16 => mX15_falls
  | 17 => mX17_falls
  | 18 => mX18_falls
  | 19 => mX15_falls
  | 20 => mX18_falls
  | 21 => mX15_falls
  | 22 => mX22_falls
  | _ => mX15_falls
def sv_isUnder : Nat → pm_Mt := fun k => match k with
  | 16 => mX16_isUnder
  | 17 => mX17_isUnder
  | 18 => mX18_isUnder
  | 19 => mX19_isUnder
  | 20 => mX20_isUnder
  | 21 => mX21_isUnder
  | 22 => mX22_isUnder
  | _ => mX15_isUnder
def sv_kind : Nat → pm_Mt := fun k => match k with
  | 16 => mX16_kind
  | 17 => mX17_kind
  | 18 => mX18_kind
  | 19 => mX19_kind
  | 20 => mX20_kind
  | 21 => mX21_kind
  | 22 => mX22_kind
  | _ => mX15_kind
def sv_lands : Nat → pm_Mt := fun k => match k with
  | 16 => mX15_lands
  | 17 => mX15_lands
  | 18 => mX18_lands
  | 19 => mX15_lands
  | 20 => mX20_lands
  | 21 => mX15_lands
  | 22 => mX15_lands
  | _ => mX15_lands
def sv_ranks : Nat → pm_Mt := fun k => match k with
  | 16 => mX24_ranks
  | 17 => mX24_ranks
  | 18 => mX24_ranks
  | 19 => mX19_ranks
  | 20 => mX20_ranks
  | 21 => mX24_ranks
  | 22 => mX24_ranks
  | _ => mX24_ranks
def sv_sits : Nat → pm_Mt := fun k => match k with
  | 16 => mX16_sits
  | 17 => mX23_sits
  | 18 => mX23_sits
  | 19 => mX16_sits
  | 20 => mX23_sits
  | 21 => mX21_sits
  | 22 => mX22_sits
  | _ => mX23_sits
