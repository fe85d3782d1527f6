set_option maxRecDepth 100000
/-! BITSET: one word; set, nextSetBit; the trailing zeros -/
theorem GW.incl {d i a : Nat} {b : Int} {M : GMeth} {ls : GL} {st : List GV} {g : GH} {Q : GO → GH → Prop} {x : Int} (hC : M.2.2.1[i]? = some (35, a, b)) (hv : ls[a]? = some (some (.inl x))) (hl : Nat.ble (a + 1) ls.length = true) (k : GW d M (i + 1) (glset ls a (.inl (x + b))) st g Q) : GW d M i ls st g Q := by
  refine GW.step hC (by decide) ?_ k
  show (match ls[a]? with | some (some (.inl x)) => if a < ls.length then some (i + 1, glset ls a (.inl (x + b)), st, g) else none | _ => none) = _
  rw [hv]
  exact if_pos (Nat.le_of_ble_eq_true hl)
theorem ntz_nat {x t : Nat} (h1 : x.testBit t = true) (h2 : ∀ j, j < t → x.testBit j = false) : x = 2 ^ (t + 1) * (x / 2 ^ (t + 1)) + 2 ^ t := by
  have e : x % 2 ^ (t + 1) = 2 ^ t := by
    apply Nat.eq_of_testBit_eq
    intro j
    rw [Nat.testBit_mod_two_pow, Nat.testBit_two_pow]
    by_cases c1 : j < t
    · rw [h2 j c1, Bool.and_false]; exact (decide_eq_false (by omega)).symm
    · by_cases c2 : j = t
      · subst c2; rw [h1, decide_eq_true (by omega), decide_eq_true rfl]; rfl
      · rw [decide_eq_false (by omega), decide_eq_false (by omega)]; rfl
  have := Nat.div_add_mod x (2 ^ (t + 1))
  rw [e] at this
  exact this.symm
theorem ntz_mask {v : BitVec 32} {t : Nat} (ht : t < 32) (h1 : v.getLsbD t = true) (h2 : ∀ j, j < t → v.getLsbD j = false) : (v ^^^ BitVec.allOnes 32) &&& (v - 1) = BitVec.ofNat 32 (2 ^ t - 1) := by
  have hx := ntz_nat (x := v.toNat) h1 h2
  have hp : 0 < 2 ^ t := Nat.two_pow_pos t
  have hlt := v.isLt
  have hs : (v - 1).toNat = 2 ^ (t + 1) * (v.toNat / 2 ^ (t + 1)) + (2 ^ t - 1) := by
    rw [BitVec.toNat_sub]
    show (2 ^ 32 - 1 + v.toNat) % 2 ^ 32 = _
    omega
  have hp2 : 2 ^ (t + 1) = 2 * 2 ^ t := by rw [Nat.pow_succ, Nat.mul_comm]
  apply BitVec.eq_of_getLsbD_eq
  intro j hj
  rw [BitVec.getLsbD_and, BitVec.getLsbD_xor, BitVec.getLsbD_allOnes, BitVec.getLsbD_ofNat, Nat.testBit_two_pow_sub_one]
  have e1 : (v - 1).getLsbD j = if j < t + 1 then decide (j < t) else (v.toNat / 2 ^ (t + 1)).testBit (j - (t + 1)) := by
    show (v - 1).toNat.testBit j = _
    rw [hs, Nat.testBit_two_pow_mul_add _ (by omega), Nat.testBit_two_pow_sub_one]
  have e2 : v.getLsbD j = if j < t + 1 then decide (t = j) else (v.toNat / 2 ^ (t + 1)).testBit (j - (t + 1)) := by
    show v.toNat.testBit j = _
    rw [hx, Nat.testBit_two_pow_mul_add _ (by omega), Nat.testBit_two_pow, ← hx]
  rw [e1, e2, decide_eq_true hj]
  by_cases c1 : j < t
  · rw [if_pos (by omega), if_pos (by omega), decide_eq_false (by omega), decide_eq_true c1]; rfl
  · rw [decide_eq_false c1]
    by_cases c2 : j = t
    · rw [if_pos (by omega), if_pos (by omega)]; simp
    · rw [if_neg (by omega), if_neg (by omega)]
      cases (v.toNat / 2 ^ (t + 1)).testBit (j - (t + 1)) <;> rfl
def BSs (g : GH) (n : Nat) (W : BitVec 64) (a u : Nat) : Prop := GAt g n 17 ∧ gfi g 106 n = u ∧ gfr g 105 n = some a ∧ GAt g a 102 ∧ glen g a = 1 ∧ gai g a 0 = W.toInt ∧ (u = 0 ∧ W = 0 ∨ u = 1)
theorem BSs.same {g g' : GH} {n a u : Nat} {W : BitVec 64} (h : BSs g n W a u) (k : SameC g g' n) (k2 : SameC g g' a) : BSs g' n W a u :=
  ⟨⟨k.1.trans h.1.1, h.1.2⟩, (k.2.2.1 106).trans h.2.1, (k.2.2.2.1 105).trans h.2.2.1, ⟨k2.1.trans h.2.2.2.1.1, h.2.2.2.1.2⟩, k2.2.1.trans h.2.2.2.2.1, (k2.2.2.2.2.1 0).trans h.2.2.2.2.2.1, h.2.2.2.2.2.2⟩
theorem BSs.at {g : GH} {n a u : Nat} {W : BitVec 64} (h : BSs g n W a u) : GAt g n 17 := h.1
theorem o64b (W : BitVec 64) : (Int64.ofInt W.toInt).toBitVec = W := BitVec.ofInt_toInt
section Bs
variable {d : Nat} {g : GH} {n a u : Nat} {W : BitVec 64}
theorem G_bsW {k : Int} (hk : 0 ≤ k ∧ k < 64) : GE (d + 1) gk_J38_wordIndex [aI k] g (vI 0) := by
  have key : ∀ k : Fin 64, gbin 6 (k.val : Int) 6 = some 0 := by decide +kernel
  obtain ⟨n, rfl⟩ := Int.eq_ofNat_of_zero_le hk.1
  refine GM.of rfl rfl rfl ?_
  (repeat (refine GW.pl rfl rfl ?_))
  refine GW.bin rfl (key ⟨n, by omega⟩) ?_
  exact GW.ir1 rfl rfl (by decide) ⟨_, rfl, rfl, rfl⟩
theorem G_bsInv : GE (d + 1) gk_J38_checkInvariants [aR n] g none := by
  refine GM.of rfl rfl rfl ?_
  (repeat (refine GW.pl rfl rfl ?_))
  refine GW.br rfl rfl (by first | omega | decide | (constructor <;> first | omega | decide)) (fun h => ?_) (fun h => by first | (exfalso; omega) | exact absurd h (by decide))
  (repeat (refine GW.pl rfl rfl ?_))
  refine GW.br rfl rfl (by first | omega | decide | (constructor <;> first | omega | decide)) (fun h => ?_) (fun h => by first | (exfalso; omega) | exact absurd h (by decide))
  (repeat (refine GW.pl rfl rfl ?_))
  refine GW.br rfl rfl (by first | omega | decide | (constructor <;> first | omega | decide)) (fun h => ?_) (fun h => by first | (exfalso; omega) | exact absurd h (by decide))
  exact GW.ret rfl rfl ⟨_, rfl, rfl, rfl⟩
theorem G_bsNew (h1 : GAt g n 17) : GMr (d + 3) gk_J38_init [aR n] g (fun r g' => r = none ∧ ∃ a, Kp g g' (fun k => k = n) 13 ∧ gsz g ≤ a ∧ a < gsz g' ∧ BSs g' n 0 a 0) := by
  have inner : ∀ (d : Nat) (g : GH), GAt g n 17 → GMr (d + 2) gk_J38_initWords [aR n, aI 64] g (fun r g' => r = none ∧ ∃ a, Kp g g' (fun k => k = n) 13 ∧ gsz g ≤ a ∧ a < gsz g' ∧ gfi g' 106 n = gfi g 106 n ∧ gfr g' 105 n = some a ∧ GAt g' n 17 ∧ GAt g' a 102 ∧ glen g' a = 1 ∧ gai g' a 0 = 0) := by
    intro d g h1
    refine GMr.wf (fun hW => ?_)
    have hn : n < gsz g := hW.lt (by rw [h1.1]; decide)
    refine GM.of rfl rfl rfl ?_
    (repeat (refine GW.pl rfl rfl ?_))
    refine GW.c1 rfl rfl (by first | exact Or.inl rfl | exact Or.inr (grecv_at (by assumption)) | exact Or.inr (grecv_c (by assumption)) | exact Or.inr (grecv_c (SIs.cls (by assumption))) | exact Or.inr (grecv_at (BSb.at (by assumption)))) (by first | exact Or.inl (by decide) | exact Or.inr (gnewv_at (by assumption))) rfl (G_bsW (k := 63) (by decide)) ?_; rintro _ _ ⟨rfl, rfl⟩
    (repeat (refine GW.pl rfl rfl ?_))
    refine GW.arr rfl rfl (by decide) (fun a ha hAa => ?_)
    have hs := gnew_same (g := g) (c := 102) (L := 1) (s := 1) hn
    have h1' : GAt (gnew g 102 1 1) n 17 := ⟨hs.1.trans h1.1, h1.2⟩
    refine GW.putr rfl rfl h1' rfl ?_
    exact GW.ret rfl rfl ⟨_, rfl, rfl, a, ((Kp.new (s := 1) hW).tr (Kp.fr (S := fun k => k = n) (F := 105) (n := n) (r := some a) rfl rfl)), by omega, by show a < gsz g + 1; omega, hs.2.2.1 106, gfr_eq, h1', hAa, gnew_len (c := 102) (L := 1) (s := 1) ha, gnew_ai (c := 102) (L := 1) (s := 1) ha⟩
  refine GM.of rfl rfl rfl ?_
  (repeat (refine GW.pl rfl rfl ?_))
  refine GW.oini rfl (And.right (show GAt _ _ _ by assumption)) (Nat.le_of_ble_eq_true rfl) ?_
  (repeat (refine GW.pl rfl rfl ?_))
  first | (refine GW.puti rfl rfl (by assumption) rfl (by first | omega | decide | (constructor <;> first | omega | decide)) ?_) | (refine GW.putz rfl rfl (by assumption) rfl (by first | omega | decide | (constructor <;> first | omega | decide)) ?_) | (refine GW.putb rfl rfl (by assumption) rfl (by first | omega | decide | (constructor <;> first | omega | decide)) ?_) | (refine GW.putc rfl rfl (by assumption) rfl (by first | omega | decide | (constructor <;> first | omega | decide)) ?_) | (refine GW.putr rfl rfl (by assumption) rfl ?_)
  (repeat (refine GW.pl rfl rfl ?_))
  first | (refine GW.puti rfl rfl (by assumption) rfl (by first | omega | decide | (constructor <;> first | omega | decide)) ?_) | (refine GW.putz rfl rfl (by assumption) rfl (by first | omega | decide | (constructor <;> first | omega | decide)) ?_) | (refine GW.putb rfl rfl (by assumption) rfl (by first | omega | decide | (constructor <;> first | omega | decide)) ?_) | (refine GW.putc rfl rfl (by assumption) rfl (by first | omega | decide | (constructor <;> first | omega | decide)) ?_) | (refine GW.putr rfl rfl (by assumption) rfl ?_)
  (repeat (refine GW.pl rfl rfl ?_))
  refine GW.c2 rfl rfl (by first | exact Or.inl rfl | exact Or.inr (grecv_at (by assumption)) | exact Or.inr (grecv_c (by assumption)) | exact Or.inr (grecv_c (SIs.cls (by assumption))) | exact Or.inr (grecv_at (BSb.at (by assumption)))) (by first | exact Or.inl (by decide) | exact Or.inr (gnewv_at (by assumption))) rfl (inner (d + 0) _ h1) ?_
  rintro _ g1 ⟨rfl, a, hK, q1, q2, q3, q4, q5, q6, q7, q8⟩
  (repeat (refine GW.pl rfl rfl ?_))
  first | (refine GW.puti rfl rfl (by assumption) rfl (by first | omega | decide | (constructor <;> first | omega | decide)) ?_) | (refine GW.putz rfl rfl (by assumption) rfl (by first | omega | decide | (constructor <;> first | omega | decide)) ?_) | (refine GW.putb rfl rfl (by assumption) rfl (by first | omega | decide | (constructor <;> first | omega | decide)) ?_) | (refine GW.putc rfl rfl (by assumption) rfl (by first | omega | decide | (constructor <;> first | omega | decide)) ?_) | (refine GW.putr rfl rfl (by assumption) rfl ?_)
  refine GW.ret rfl rfl ⟨_, rfl, rfl, a, ?_, q1, q2, q5, ?_, q4, q6, q7, q8, Or.inl ⟨rfl, rfl⟩⟩
  · exact (((Kp.fi (S := fun k => k = n) (F := 106) (n := n) (x := 0) rfl rfl).tr (Kp.fi rfl rfl)).tr hK).tr (Kp.fi (S := fun k => k = n) (F := 107) (n := n) (x := 0) rfl rfl)
  · exact (gfi_nf (g := g1) (F := 107) (n := n) (x := 0) rfl).trans (q3.trans ((gfi_nf (g := gsfi g 106 n 0) (F := 107) (n := n) (x := 0) rfl).trans gfi_eq))
/-- bit k is set -/
theorem G_bsSet (h : BSs g n W a u) {k : Nat} (hk : k < 64) : GMr (d + 3) gk_J38_set [aR n, aI k] g (fun r g' => r = none ∧ Kp g g' (fun k => k = n ∨ k = a) 0 ∧ BSs g' n (W ||| BitVec.twoPow 64 k) a 1) := by
  obtain ⟨h1, h2, h3, h4, h5, h6, h7⟩ := h
  have hna : n ≠ a := fun z => by have := h1.1; rw [z, h4.1] at this; cases this
  have hu : u = 0 ∨ u = 1 := by rcases h7 with z | z; exact Or.inl z.1; exact Or.inr z
  have key : ∀ k : Fin 64, (Int64.ofInt 1 <<< ((Int32.ofInt (k.val : Int)).toInt64 &&& 63)).toBitVec = BitVec.twoPow 64 k.val := by decide +kernel
  have ex : ∀ (d : Nat), GMr (d + 2) gk_J38_expandTo [aR n, aI 0] g (fun r g' => r = none ∧ Kp g g' (fun k => k = n ∨ k = a) 0 ∧ BSs g' n W a 1) := by
    intro d
    have ens : ∀ (d : Nat), GE (d + 1) gk_J38_ensureCapacity [aR n, aI 1] g none := by
      intro d
      refine GM.of rfl rfl rfl ?_
      (repeat (first | (refine GW.pl rfl rfl ?_) | (refine GW.geti rfl rfl (by first | exact GHas.at (by assumption) rfl | exact GHas.k (by assumption) rfl rfl) (by first | assumption | rfl) (fun _ => ?_)) | (refine GW.getr rfl rfl (by first | exact GHas.at (by assumption) rfl | exact GHas.k (by assumption) rfl rfl) (by first | assumption | rfl) ?_)))
      refine GW.alen rfl h4.1 rfl h5 (fun hl => ?_)
      (repeat (refine GW.pl rfl rfl ?_))
      refine GW.br rfl rfl (by first | omega | decide | (constructor <;> first | omega | decide)) (fun h8 => ?_) (fun h8 => by first | (exfalso; omega) | exact absurd h8 (by decide))
      exact GW.ret rfl rfl ⟨_, rfl, rfl, rfl⟩
    refine GM.of rfl rfl rfl ?_
    (repeat (first | (refine GW.pl rfl rfl ?_) | (refine GW.geti rfl rfl (by first | exact GHas.at (by assumption) rfl | exact GHas.k (by assumption) rfl rfl) (by first | assumption | rfl) (fun _ => ?_)) | (refine GW.getr rfl rfl (by first | exact GHas.at (by assumption) rfl | exact GHas.k (by assumption) rfl rfl) (by first | assumption | rfl) ?_)))
    rcases h7 with ⟨rfl, rfl⟩ | rfl
    · refine GW.br rfl rfl (by first | omega | decide | (constructor <;> first | omega | decide)) (fun h8 => by first | (exfalso; omega) | exact absurd h8 (by decide)) (fun h8 => ?_)
      (repeat (refine GW.pl rfl rfl ?_))
      refine GW.c2 rfl rfl (by first | exact Or.inl rfl | exact Or.inr (grecv_at (by assumption)) | exact Or.inr (grecv_c (by assumption)) | exact Or.inr (grecv_c (SIs.cls (by assumption))) | exact Or.inr (grecv_at (BSb.at (by assumption)))) (by first | exact Or.inl (by decide) | exact Or.inr (gnewv_at (by assumption))) rfl (ens d) ?_; rintro _ _ ⟨rfl, rfl⟩
      (repeat (refine GW.pl rfl rfl ?_))
      first | (refine GW.puti rfl rfl (by assumption) rfl (by first | omega | decide | (constructor <;> first | omega | decide)) ?_) | (refine GW.putz rfl rfl (by assumption) rfl (by first | omega | decide | (constructor <;> first | omega | decide)) ?_) | (refine GW.putb rfl rfl (by assumption) rfl (by first | omega | decide | (constructor <;> first | omega | decide)) ?_) | (refine GW.putc rfl rfl (by assumption) rfl (by first | omega | decide | (constructor <;> first | omega | decide)) ?_) | (refine GW.putr rfl rfl (by assumption) rfl ?_)
      exact GW.ret rfl rfl ⟨_, rfl, rfl, Kp.fi rfl (Or.inl rfl), h1, gfi_eq, h3, h4, h5, h6, Or.inr rfl⟩
    · refine GW.br rfl rfl (by first | omega | decide | (constructor <;> first | omega | decide)) (fun h8 => ?_) (fun h8 => by first | (exfalso; omega) | exact absurd h8 (by decide))
      exact GW.ret rfl rfl ⟨_, rfl, rfl, Kp.rf, h1, h2, h3, h4, h5, h6, Or.inr rfl⟩
  refine GM.of rfl rfl rfl ?_
  (repeat (refine GW.pl rfl rfl ?_))
  refine GW.br rfl rfl (by first | omega | decide | (constructor <;> first | omega | decide)) (fun h8 => ?_) (fun h8 => by first | (exfalso; omega) | exact absurd h8 (by decide))
  (repeat (refine GW.pl rfl rfl ?_))
  refine GW.c1 rfl rfl (by first | exact Or.inl rfl | exact Or.inr (grecv_at (by assumption)) | exact Or.inr (grecv_c (by assumption)) | exact Or.inr (grecv_c (SIs.cls (by assumption))) | exact Or.inr (grecv_at (BSb.at (by assumption)))) (by first | exact Or.inl (by decide) | exact Or.inr (gnewv_at (by assumption))) rfl (G_bsW (k := (k : Int)) ⟨by omega, by omega⟩) ?_; rintro _ _ ⟨rfl, rfl⟩
  (repeat (refine GW.pl rfl rfl ?_))
  refine GW.c2 rfl rfl (by first | exact Or.inl rfl | exact Or.inr (grecv_at (by assumption)) | exact Or.inr (grecv_c (by assumption)) | exact Or.inr (grecv_c (SIs.cls (by assumption))) | exact Or.inr (grecv_at (BSb.at (by assumption)))) (by first | exact Or.inl (by decide) | exact Or.inr (gnewv_at (by assumption))) rfl (ex _) ?_
  rintro _ g1 ⟨rfl, hK, k1, k2, k3, k4, k5, k6, k7⟩
  (repeat (first | (refine GW.pl rfl rfl ?_) | (refine GW.geti rfl rfl (by first | exact GHas.at (by assumption) rfl | exact GHas.k (by assumption) rfl rfl) (by first | assumption | rfl) (fun _ => ?_)) | (refine GW.getr rfl rfl (by first | exact GHas.at (by assumption) rfl | exact GHas.k (by assumption) rfl rfl) (by first | assumption | rfl) ?_)))
  refine GW.lald (v := W.toInt) rfl k4 k5 (by decide) k6 (fun hv => ?_)
  (repeat (refine GW.pl rfl rfl ?_))
  refine GW.lshl rfl ?_
  refine GW.lor rfl ?_
  have e : (Int64.ofInt W.toInt ||| Int64.ofInt (Int64.ofInt 1 <<< ((Int32.ofInt (k : Int)).toInt64 &&& 63)).toInt).toInt = (W ||| BitVec.twoPow 64 k).toInt := by
    rw [Int64.ofInt_toInt]
    show (Int64.toBitVec _).toInt = _
    congr 1
    rw [← key ⟨k, hk⟩]
    show (Int64.ofInt W.toInt).toBitVec ||| _ = _
    rw [o64b]
  rw [e]
  refine GW.last rfl k4 k5 (by decide) ?_ ?_
  · have h1 := BitVec.le_toInt (W ||| BitVec.twoPow 64 k)
    have h2 := @BitVec.toInt_lt 64 (W ||| BitVec.twoPow 64 k)
    exact ⟨by simpa using h1, by simpa using h2⟩
  (repeat (refine GW.pl rfl rfl ?_))
  refine GW.c1 rfl rfl (by first | exact Or.inl rfl | exact Or.inr (grecv_at (by assumption)) | exact Or.inr (grecv_c (by assumption)) | exact Or.inr (grecv_c (SIs.cls (by assumption))) | exact Or.inr (grecv_at (BSb.at (by assumption)))) (by first | exact Or.inl (by decide) | exact Or.inr (gnewv_at (by assumption))) rfl (G_bsInv) ?_; rintro _ _ ⟨rfl, rfl⟩
  exact GW.ret rfl rfl ⟨_, rfl, rfl, hK.tr (Kp.ai (Or.inr rfl)), k1, k2, k3, k4, k5, gai_eq, Or.inr rfl⟩
/-- the trailing zeros of an int -/
theorem G_ntz32 {y : Int} {t : Nat} (ht : t < 32) (h1 : (BitVec.ofInt 32 y).getLsbD t = true) (h2 : ∀ j, j < t → (BitVec.ofInt 32 y).getLsbD j = false) : GE (d + 1) gk_J24_numberOfTrailingZeros [aI y] g (vI t) := by
  have P : ∀ t : Fin 32, (BitVec.ofNat 32 (2 ^ t.val - 1)).toInt = ((2 ^ t.val - 1 : Nat) : Int) ∧ 2 ^ t.val - 1 < 2147483648 ∧ (65536 < 2 ^ t.val - 1 ↔ 16 < t.val) ∧ (256 < 2 ^ t.val - 1 ↔ 8 < t.val) ∧ (16 < 2 ^ t.val - 1 ↔ 4 < t.val) ∧ (4 < 2 ^ t.val - 1 ↔ 2 < t.val) ∧ (0 < 2 ^ t.val - 1 ↔ 0 < t.val) := by decide +kernel
  have U : ∀ t : Fin 32, gbin 7 ((2 ^ t.val - 1 : Nat) : Int) 16 = some ((2 ^ (t.val - 16) - 1 : Nat) : Int) ∧ gbin 7 ((2 ^ t.val - 1 : Nat) : Int) 8 = some ((2 ^ (t.val - 8) - 1 : Nat) : Int) ∧ gbin 7 ((2 ^ t.val - 1 : Nat) : Int) 4 = some ((2 ^ (t.val - 4) - 1 : Nat) : Int) ∧ gbin 7 ((2 ^ t.val - 1 : Nat) : Int) 2 = some ((2 ^ (t.val - 2) - 1 : Nat) : Int) ∧ (0 < t.val ∧ t.val < 3 → gbin 7 ((2 ^ t.val - 1 : Nat) : Int) 1 = some ((t.val - 1 : Nat) : Int)) := by decide +kernel
  have e : gbin 8 (Int32.ofInt y ^^^ Int32.ofInt (-1)).toInt (y - 1) = some ((2 ^ t - 1 : Nat) : Int) := by
    show some (Int32.ofInt (Int32.ofInt y ^^^ Int32.ofInt (-1)).toInt &&& Int32.ofInt (y - 1)).toInt = _
    rw [Int32.ofInt_toInt, ← (P ⟨t, ht⟩).1]
    congr 1
    show (Int32.toBitVec _).toInt = _
    congr 1
    rw [← ntz_mask ht h1 h2]
    show (BitVec.ofInt 32 y ^^^ BitVec.ofInt 32 (-1)) &&& BitVec.ofInt 32 (y - 1) = _
    have a1 : BitVec.ofInt 32 (-1) = BitVec.allOnes 32 := by decide
    have a2 : BitVec.ofInt 32 (y - 1) = BitVec.ofInt 32 y - 1 := by
      rw [Int.sub_eq_add_neg, BitVec.ofInt_add, show BitVec.ofInt 32 (-1) = -1 by decide, ← BitVec.sub_eq_add_neg]
    rw [a1, a2]
  have B48 : ∀ (t' n : Nat), 0 < t' → t' < 3 → n < 100 → GW d gm_J24_numberOfTrailingZeros 48 [some (aI ((2 ^ t' - 1 : Nat) : Int)), some (aI n)] [] g (fun r g' => ∃ v, r = .inl v ∧ vI ((n : Int) + (t' - 1 : Nat)) = v ∧ g = g') := by
    intro t' n h3 h4 h5
    (repeat (refine GW.pl rfl rfl ?_))
    refine GW.bin rfl ((U ⟨t', by omega⟩).2.2.2.2 ⟨h3, h4⟩) ?_
    (repeat (refine GW.pl rfl rfl ?_))
    exact GW.ir1 rfl rfl ⟨by omega, by omega⟩ ⟨_, rfl, rfl, rfl⟩
  have B40 : ∀ (t' n : Nat), 0 < t' → t' < 5 → n < 90 → GW d gm_J24_numberOfTrailingZeros 40 [some (aI ((2 ^ t' - 1 : Nat) : Int)), some (aI n)] [] g (fun r g' => ∃ v, r = .inl v ∧ vI ((n : Int) + (t' - 1 : Nat)) = v ∧ g = g') := by
    intro t' n h3 h4 h5
    have p := P ⟨t', by omega⟩
    dsimp only at p
    (repeat (refine GW.pl rfl rfl ?_))
    refine GW.br rfl rfl ⟨⟨by omega, by omega⟩, by decide⟩ (fun h6 => ?_) (fun h6 => ?_)
    · exact B48 t' n h3 (by have := p.2.2.2.2.2.1; omega) (by omega)
    · (repeat (refine GW.pl rfl rfl ?_))
      refine GW.bin rfl (U ⟨t', by omega⟩).2.2.2.1 ?_
      (iterate 1 (refine GW.pl rfl rfl ?_))
      have := p.2.2.2.2.2.1
      have hb := B48 (t' - 2) (n + 2) (by omega) (by omega) (by omega)
      rw [show (((n + 2 : Nat) : Int) + (t' - 2 - 1 : Nat)) = (n : Int) + (t' - 1 : Nat) by omega] at hb
      exact hb
  have B32 : ∀ (t' n : Nat), 0 < t' → t' < 9 → n < 80 → GW d gm_J24_numberOfTrailingZeros 32 [some (aI ((2 ^ t' - 1 : Nat) : Int)), some (aI n)] [] g (fun r g' => ∃ v, r = .inl v ∧ vI ((n : Int) + (t' - 1 : Nat)) = v ∧ g = g') := by
    intro t' n h3 h4 h5
    have p := P ⟨t', by omega⟩
    dsimp only at p
    (repeat (refine GW.pl rfl rfl ?_))
    refine GW.br rfl rfl ⟨⟨by omega, by omega⟩, by decide⟩ (fun h6 => ?_) (fun h6 => ?_)
    · exact B40 t' n h3 (by have := p.2.2.2.2.1; omega) (by omega)
    · (repeat (refine GW.pl rfl rfl ?_))
      refine GW.bin rfl (U ⟨t', by omega⟩).2.2.1 ?_
      (iterate 1 (refine GW.pl rfl rfl ?_))
      have := p.2.2.2.2.1
      have hb := B40 (t' - 4) (n + 4) (by omega) (by omega) (by omega)
      rw [show (((n + 4 : Nat) : Int) + (t' - 4 - 1 : Nat)) = (n : Int) + (t' - 1 : Nat) by omega] at hb
      exact hb
  have B24 : ∀ (t' n : Nat), 0 < t' → t' < 17 → n < 70 → GW d gm_J24_numberOfTrailingZeros 24 [some (aI ((2 ^ t' - 1 : Nat) : Int)), some (aI n)] [] g (fun r g' => ∃ v, r = .inl v ∧ vI ((n : Int) + (t' - 1 : Nat)) = v ∧ g = g') := by
    intro t' n h3 h4 h5
    have p := P ⟨t', by omega⟩
    dsimp only at p
    (repeat (refine GW.pl rfl rfl ?_))
    refine GW.br rfl rfl ⟨⟨by omega, by omega⟩, by decide⟩ (fun h6 => ?_) (fun h6 => ?_)
    · exact B32 t' n h3 (by have := p.2.2.2.1; omega) (by omega)
    · (repeat (refine GW.pl rfl rfl ?_))
      refine GW.bin rfl (U ⟨t', by omega⟩).2.1 ?_
      (iterate 1 (refine GW.pl rfl rfl ?_))
      have := p.2.2.2.1
      have hb := B32 (t' - 8) (n + 8) (by omega) (by omega) (by omega)
      rw [show (((n + 8 : Nat) : Int) + (t' - 8 - 1 : Nat)) = (n : Int) + (t' - 1 : Nat) by omega] at hb
      exact hb
  have p := P ⟨t, ht⟩
  dsimp only at p
  refine GM.of rfl rfl rfl ?_
  (repeat (refine GW.pl rfl rfl ?_))
  refine GW.bin rfl rfl ?_
  (repeat (refine GW.pl rfl rfl ?_))
  refine GW.bin rfl e ?_
  (repeat (refine GW.pl rfl rfl ?_))
  refine GW.br rfl rfl ⟨by omega, by omega⟩ (fun h6 => ?_) (fun h6 => ?_)
  · have ht0 : 0 < t := by have := p.2.2.2.2.2.2; omega
    (repeat (refine GW.pl rfl rfl ?_))
    refine GW.br rfl rfl ⟨⟨by omega, by omega⟩, by decide⟩ (fun h7 => ?_) (fun h7 => ?_)
    · have hb := B24 t 1 ht0 (by have := p.2.2.1; omega) (by omega)
      rw [show ((1 : Nat) : Int) + (t - 1 : Nat) = t by omega] at hb
      exact hb
    · (repeat (refine GW.pl rfl rfl ?_))
      refine GW.bin rfl (U ⟨t, ht⟩).1 ?_
      (iterate 1 (refine GW.pl rfl rfl ?_))
      have := p.2.2.1
      have hb := B24 (t - 16) 17 (by omega) (by omega) (by omega)
      rw [show ((17 : Nat) : Int) + (t - 16 - 1 : Nat) = t by omega] at hb
      exact hb
  · have ht0 : t = 0 := by have := p.2.2.2.2.2.2; omega
    subst ht0
    (repeat (refine GW.pl rfl rfl ?_))
    refine GW.bin (z := 0) rfl (by decide) ?_
    exact GW.ir1 rfl rfl (by decide) ⟨_, rfl, rfl, rfl⟩
/-- the trailing zeros of a long -/
theorem lo32 (V : BitVec 64) : BitVec.ofInt 32 (Int32.ofInt V.toInt).toInt = V.setWidth 32 := by
  show BitVec.ofInt 32 (BitVec.ofInt 32 V.toInt).toInt = _
  rw [BitVec.ofInt_toInt]
  exact BitVec.signExtend_eq_setWidth_of_le V (by decide)
theorem hi64 (V : BitVec 64) : ((Int64.ofInt V.toInt).toUInt64 >>> ((Int32.ofInt 32).toInt64.toUInt64 &&& Int64.toUInt64 63)).toInt64.toInt = (V >>> 32).toInt := by
  show (BitVec.toInt (_ : BitVec 64)) = _
  congr 1
  show (Int64.ofInt V.toInt).toBitVec >>> (UInt64.mod ((Int32.ofInt 32).toInt64.toUInt64 &&& Int64.toUInt64 63) 64).toBitVec = _
  rw [o64b, show (UInt64.mod ((Int32.ofInt 32).toInt64.toUInt64 &&& Int64.toUInt64 63) 64).toBitVec = BitVec.ofNat 64 32 by decide]
  rfl
theorem G_ntz64 {V : BitVec 64} {t : Nat} (ht : t < 64) (h1 : V.getLsbD t = true) (h2 : ∀ j, j < t → V.getLsbD j = false) : GE (d + 2) gk_J29_numberOfTrailingZeros [aL V.toInt] g (vI t) := by
  have hR : ∀ x : Int, inR (Int32.ofInt x).toInt := by
    intro x
    have h1 := BitVec.le_toInt (Int32.ofInt x).toBitVec
    have h2 := @BitVec.toInt_lt 32 (Int32.ofInt x).toBitVec
    exact ⟨by simpa using h1, by simpa using h2⟩
  refine GM.ofl rfl rfl ?_
  (repeat (refine GW.pl rfl rfl ?_))
  refine GW.sti rfl rfl ?_
  (repeat (refine GW.pl rfl rfl ?_))
  by_cases c : t < 32
  · refine GW.br rfl rfl (hR _) (fun h3 => ?_) (fun h3 => ?_)
    · (repeat (refine GW.pl rfl rfl ?_))
      refine GW.c1 rfl rfl (by first | exact Or.inl rfl | exact Or.inr (grecv_at (by assumption)) | exact Or.inr (grecv_c (by assumption)) | exact Or.inr (grecv_c (SIs.cls (by assumption))) | exact Or.inr (grecv_at (BSb.at (by assumption)))) (by first | exact Or.inl (by decide) | exact Or.inr (gnewv_at (by assumption))) rfl (G_ntz32 c (by rw [lo32, BitVec.getLsbD_setWidth, decide_eq_true c, h1]; rfl) (fun j hj => by rw [lo32, BitVec.getLsbD_setWidth, h2 j hj, Bool.and_false])) ?_; rintro _ _ ⟨rfl, rfl⟩
      exact GW.ir1 rfl rfl ⟨by omega, by omega⟩ ⟨_, rfl, rfl, rfl⟩
    · exfalso
      have e := lo32 V
      rw [h3] at e
      have e2 : (V.setWidth 32).getLsbD t = true := by rw [BitVec.getLsbD_setWidth, decide_eq_true c, h1]; rfl
      rw [← e] at e2
      simp at e2
  · have e : V.setWidth 32 = 0 := by
      apply BitVec.eq_of_getLsbD_eq
      intro j hj
      rw [BitVec.getLsbD_setWidth, h2 j (by omega)]
      simp
    have e0 : (Int32.ofInt V.toInt).toInt = 0 := by
      show (BitVec.ofInt 32 V.toInt).toInt = 0
      have : BitVec.ofInt 32 V.toInt = V.setWidth 32 := BitVec.signExtend_eq_setWidth_of_le V (by decide)
      rw [this, e]; rfl
    rw [e0]
    refine GW.br rfl rfl (by first | omega | decide | (constructor <;> first | omega | decide)) (fun h3 => by first | (exfalso; omega) | exact absurd h3 (by decide)) (fun h3 => ?_)
    (repeat (refine GW.pl rfl rfl ?_))
    refine GW.lushr rfl ?_
    rw [hi64]
    (repeat (refine GW.pl rfl rfl ?_))
    have g1 : ∀ j, ((V >>> 32).setWidth 32).getLsbD j = (decide (j < 32) && V.getLsbD (32 + j)) := by
      intro j
      rw [BitVec.getLsbD_setWidth, BitVec.getLsbD_ushiftRight]
    refine GW.c1 rfl rfl (by first | exact Or.inl rfl | exact Or.inr (grecv_at (by assumption)) | exact Or.inr (grecv_c (by assumption)) | exact Or.inr (grecv_c (SIs.cls (by assumption))) | exact Or.inr (grecv_at (BSb.at (by assumption)))) (by first | exact Or.inl (by decide) | exact Or.inr (gnewv_at (by assumption))) rfl (G_ntz32 (t := t - 32) (by omega) (by rw [lo32, g1, decide_eq_true (by omega), show 32 + (t - 32) = t by omega, h1]; rfl) (fun j hj => by rw [lo32, g1, h2 (32 + j) (by omega), Bool.and_false])) ?_; rintro _ _ ⟨rfl, rfl⟩
    (repeat (refine GW.pl rfl rfl ?_))
    have e3 : (32 : Int) + ((t - 32 : Nat) : Int) = t := by omega
    rw [e3]
    exact GW.ir1 rfl rfl ⟨by omega, by omega⟩ ⟨_, rfl, rfl, rfl⟩
theorem mask64 {k : Nat} (hk : k < 64) : (Int64.ofInt W.toInt &&& Int64.ofInt (Int64.ofInt (-1) <<< ((Int32.ofInt (k : Int)).toInt64 &&& 63)).toInt).toInt = (W &&& (BitVec.allOnes 64 <<< k)).toInt := by
  have key : ∀ k : Fin 64, (Int64.ofInt (-1) <<< ((Int32.ofInt (k.val : Int)).toInt64 &&& 63)).toBitVec = BitVec.allOnes 64 <<< k.val := by decide +kernel
  rw [Int64.ofInt_toInt]
  show (Int64.toBitVec _).toInt = _
  congr 1
  rw [← key ⟨k, hk⟩]
  show (Int64.ofInt W.toInt).toBitVec &&& _ = _
  rw [o64b]
theorem mask_bit {k j : Nat} : (W &&& (BitVec.allOnes 64 <<< k)).getLsbD j = (W.getLsbD j && (decide (k ≤ j) && decide (j < 64))) := by
  rw [BitVec.getLsbD_and, BitVec.getLsbD_shiftLeft, BitVec.getLsbD_allOnes]
  by_cases c1 : j < k
  · rw [decide_eq_true c1, decide_eq_false (show ¬ k ≤ j by omega)]; simp
  · by_cases c2 : j < 64
    · rw [decide_eq_true c2, decide_eq_false c1, decide_eq_true (show k ≤ j by omega), decide_eq_true (show j - k < 64 by omega)]; rfl
    · rw [decide_eq_false c2]; simp
/-- the next set bit from k on -/
theorem G_bsNext (h : BSs g n W a u) {k : Nat} (hk : k < 64) {r : Int} (hr : (r = -1 ∧ ∀ j, k ≤ j → W.getLsbD j = false) ∨ ∃ t : Nat, r = t ∧ k ≤ t ∧ t < 64 ∧ W.getLsbD t = true ∧ ∀ j, k ≤ j → j < t → W.getLsbD j = false) : GE (d + 3) gk_J38_nextSetBit [aR n, aI k] g (vI r) := by
  obtain ⟨h1, h2, h3, h4, h5, h6, h7⟩ := h
  refine GM.of rfl rfl rfl ?_
  (repeat (refine GW.pl rfl rfl ?_))
  refine GW.br rfl rfl (by first | omega | decide | (constructor <;> first | omega | decide)) (fun h8 => ?_) (fun h8 => by first | (exfalso; omega) | exact absurd h8 (by decide))
  (repeat (refine GW.pl rfl rfl ?_))
  refine GW.c1 rfl rfl (by first | exact Or.inl rfl | exact Or.inr (grecv_at (by assumption)) | exact Or.inr (grecv_c (by assumption)) | exact Or.inr (grecv_c (SIs.cls (by assumption))) | exact Or.inr (grecv_at (BSb.at (by assumption)))) (by first | exact Or.inl (by decide) | exact Or.inr (gnewv_at (by assumption))) rfl (G_bsInv) ?_; rintro _ _ ⟨rfl, rfl⟩
  (repeat (refine GW.pl rfl rfl ?_))
  refine GW.c1 rfl rfl (by first | exact Or.inl rfl | exact Or.inr (grecv_at (by assumption)) | exact Or.inr (grecv_c (by assumption)) | exact Or.inr (grecv_c (SIs.cls (by assumption))) | exact Or.inr (grecv_at (BSb.at (by assumption)))) (by first | exact Or.inl (by decide) | exact Or.inr (gnewv_at (by assumption))) rfl (G_bsW (k := (k : Int)) ⟨by omega, by omega⟩) ?_; rintro _ _ ⟨rfl, rfl⟩
  (repeat (first | (refine GW.pl rfl rfl ?_) | (refine GW.geti rfl rfl (by first | exact GHas.at (by assumption) rfl | exact GHas.k (by assumption) rfl rfl) (by first | assumption | rfl) (fun _ => ?_)) | (refine GW.getr rfl rfl (by first | exact GHas.at (by assumption) rfl | exact GHas.k (by assumption) rfl rfl) (by first | assumption | rfl) ?_)))
  rcases h7 with ⟨rfl, rfl⟩ | rfl
  · refine GW.br rfl rfl (by first | omega | decide | (constructor <;> first | omega | decide)) (fun h8 => by first | (exfalso; omega) | exact absurd h8 (by decide)) (fun h8 => ?_)
    have hr1 : r = -1 := by
      rcases hr with z | ⟨t, -, -, -, z, -⟩
      · exact z.1
      · simp at z
    subst hr1
    (repeat (refine GW.pl rfl rfl ?_))
    exact GW.ir1 rfl rfl (by decide) ⟨_, rfl, rfl, rfl⟩
  · refine GW.br rfl rfl (by first | omega | decide | (constructor <;> first | omega | decide)) (fun h8 => ?_) (fun h8 => by first | (exfalso; omega) | exact absurd h8 (by decide))
    (repeat (first | (refine GW.pl rfl rfl ?_) | (refine GW.geti rfl rfl (by first | exact GHas.at (by assumption) rfl | exact GHas.k (by assumption) rfl rfl) (by first | assumption | rfl) (fun _ => ?_)) | (refine GW.getr rfl rfl (by first | exact GHas.at (by assumption) rfl | exact GHas.k (by assumption) rfl rfl) (by first | assumption | rfl) ?_)))
    refine GW.lald (v := W.toInt) rfl h4 h5 (by decide) h6 (fun hv => ?_)
    (repeat (refine GW.pl rfl rfl ?_))
    refine GW.lshl rfl ?_
    refine GW.land rfl ?_
    rw [mask64 hk]
    refine GW.stl rfl rfl ?_
    (repeat (refine GW.pl rfl rfl ?_))
    have hV : inL (W &&& (BitVec.allOnes 64 <<< k)).toInt := by
      have h1 := BitVec.le_toInt (W &&& (BitVec.allOnes 64 <<< k))
      have h2 := @BitVec.toInt_lt 64 (W &&& (BitVec.allOnes 64 <<< k))
      exact ⟨by simpa using h1, by simpa using h2⟩
    refine GW.lcmp rfl ⟨hV, by decide⟩ ?_
    rcases hr with ⟨rfl, hz⟩ | ⟨t, rfl, ht1, ht2, ht3, ht4⟩
    · have e : W &&& (BitVec.allOnes 64 <<< k) = 0 := by
        apply BitVec.eq_of_getLsbD_eq
        intro j hj
        rw [mask_bit]
        by_cases c : k ≤ j
        · rw [hz j c]; simp
        · rw [decide_eq_false c]; simp
      rw [e]
      refine GW.br rfl rfl (by first | omega | decide | (constructor <;> first | omega | decide)) (fun h9 => ?_) (fun h9 => by first | (exfalso; omega) | exact absurd h9 (by decide))
      refine GW.incl rfl rfl rfl ?_
      (repeat (first | (refine GW.pl rfl rfl ?_) | (refine GW.geti rfl rfl (by first | exact GHas.at (by assumption) rfl | exact GHas.k (by assumption) rfl rfl) (by first | assumption | rfl) (fun _ => ?_)) | (refine GW.getr rfl rfl (by first | exact GHas.at (by assumption) rfl | exact GHas.k (by assumption) rfl rfl) (by first | assumption | rfl) ?_)))
      refine GW.br rfl rfl ⟨by decide, by decide⟩ (fun h10 => absurd rfl h10) (fun h10 => ?_)
      (repeat (refine GW.pl rfl rfl ?_))
      exact GW.ir1 rfl rfl (by decide) ⟨_, rfl, rfl, rfl⟩
    · have hb : (W &&& (BitVec.allOnes 64 <<< k)).getLsbD t = true := by rw [mask_bit, ht3, decide_eq_true ht1, decide_eq_true ht2]; rfl
      have hb2 : ∀ j, j < t → (W &&& (BitVec.allOnes 64 <<< k)).getLsbD j = false := by
        intro j hj
        rw [mask_bit]
        by_cases c : k ≤ j
        · rw [ht4 j c hj]; simp
        · rw [decide_eq_false c]; simp
      have hne : (W &&& (BitVec.allOnes 64 <<< k)).toInt ≠ 0 := by
        intro z
        have e : W &&& (BitVec.allOnes 64 <<< k) = 0 := by
          apply BitVec.eq_of_toInt_eq
          rw [z]; rfl
        rw [e] at hb
        simp at hb
      generalize hVV : W &&& (BitVec.allOnes 64 <<< k) = V at hb hb2 hne hV ⊢
      refine GW.br rfl rfl ?_ (fun h9 => ?_) (fun h9 => ?_)
      · split <;> (try split) <;> decide
      · exfalso
        rw [if_neg hne] at h9
        split at h9 <;> cases h9
      (repeat (refine GW.pl rfl rfl ?_))
      refine GW.c1 rfl rfl (by first | exact Or.inl rfl | exact Or.inr (grecv_at (by assumption)) | exact Or.inr (grecv_c (by assumption)) | exact Or.inr (grecv_c (SIs.cls (by assumption))) | exact Or.inr (grecv_at (BSb.at (by assumption)))) (by first | exact Or.inl (by decide) | exact Or.inr (gnewv_at (by assumption))) rfl (G_ntz64 ht2 hb hb2) ?_; rintro _ _ ⟨rfl, rfl⟩
      (repeat (refine GW.pl rfl rfl ?_))
      rw [show (0 : Int) * 64 + (t : Int) = t by omega]
      exact GW.ir1 rfl rfl ⟨by omega, by omega⟩ ⟨_, rfl, rfl, rfl⟩
end Bs
