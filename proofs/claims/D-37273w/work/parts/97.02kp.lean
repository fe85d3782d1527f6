set_option maxRecDepth 100000
/-! what a run of the JDK's methods keeps: Kp g g' S c: old cells but those in S are the same, fields of Lineorders' own classes are the same, c is what it costs (12 a cell, 1 a slot) -/
def SameC (g g' : GH) (k : Nat) : Prop := gcls g' k = gcls g k ∧ glen g' k = glen g k ∧ (∀ F, gfi g' F k = gfi g F k) ∧ (∀ F, gfr g' F k = gfr g F k) ∧ (∀ j, gai g' k j = gai g k j) ∧ ∀ j, gar g' k j = gar g k j
theorem SameC.rf {g : GH} {k : Nat} : SameC g g k := ⟨rfl, rfl, fun _ => rfl, fun _ => rfl, fun _ => rfl, fun _ => rfl⟩
theorem SameC.trans {g g1 g2 : GH} {k : Nat} (h : SameC g g1 k) (h2 : SameC g1 g2 k) : SameC g g2 k := ⟨h2.1.trans h.1, h2.2.1.trans h.2.1, fun F => (h2.2.2.1 F).trans (h.2.2.1 F), fun F => (h2.2.2.2.1 F).trans (h.2.2.2.1 F), fun j => (h2.2.2.2.2.1 j).trans (h.2.2.2.2.1 j), fun j => (h2.2.2.2.2.2 j).trans (h.2.2.2.2.2 j)⟩
abbrev gwt (g : GH) : Nat := 12 * gnc g + gns g
def Kp (g g' : GH) (S : Nat → Prop) (c : Nat) : Prop := gsz g ≤ gsz g' ∧ gwt g' ≤ gwt g + c ∧ (∀ k, k < gsz g → ¬ S k → SameC g g' k) ∧ (∀ k, k < gsz g → gcls g' k = gcls g k ∧ glen g' k = glen g k) ∧ ∀ F k, F < 91 → gfi g' F k = gfi g F k ∧ gfr g' F k = gfr g F k
section Kp
variable {g g' g1 g2 : GH} {S S2 S' : Nat → Prop} {c c' c1 c2 n F j L s : Nat} {x : Int} {r : Option Nat}
theorem Kp.rf : Kp g g S 0 := ⟨Nat.le_refl _, Nat.le_refl _, fun _ _ _ => SameC.rf, fun _ _ => ⟨rfl, rfl⟩, fun _ _ _ => ⟨rfl, rfl⟩⟩
theorem Kp.trans (h : Kp g g1 S c1) (h2 : Kp g1 g2 S2 c2) (hS : ∀ k, k < gsz g → S2 k → S k) : Kp g g2 S (c1 + c2) := by
  obtain ⟨a1, a2, a3, a4, a5⟩ := h
  obtain ⟨b1, b2, b3, b4, b5⟩ := h2
  refine ⟨Nat.le_trans a1 b1, by omega, fun k hk hs => ?_, fun k hk => ?_, fun F k hF => ?_⟩
  · exact (a3 k hk hs).trans (b3 k (Nat.lt_of_lt_of_le hk a1) (fun z => hs (hS k hk z)))
  · have h1 := a4 k hk
    have h2 := b4 k (Nat.lt_of_lt_of_le hk a1)
    exact ⟨h2.1.trans h1.1, h2.2.trans h1.2⟩
  · have h1 := a5 F k hF
    have h2 := b5 F k hF
    exact ⟨h2.1.trans h1.1, h2.2.trans h1.2⟩
theorem Kp.tr (h : Kp g g1 S c1) (h2 : Kp g1 g2 S c2) : Kp g g2 S (c1 + c2) := h.trans h2 (fun _ _ z => z)
theorem Kp.le (h : Kp g g' S c) (hc : c ≤ c') : Kp g g' S c' := ⟨h.1, Nat.le_trans h.2.1 (Nat.add_le_add_left hc _), h.2.2⟩
theorem Kp.mono (h : Kp g g' S c) (hc : c ≤ c') (hS : ∀ k, k < gsz g → S k → S' k) : Kp g g' S' c' := ⟨h.1, Nat.le_trans h.2.1 (Nat.add_le_add_left hc _), fun k hk hs => h.2.2.1 k hk (fun z => hs (hS k hk z)), h.2.2.2⟩
theorem Kp.fi (hF : Nat.ble 91 F = true) (hS : S n) : Kp g (gsfi g F n x) S 0 := by
  have hF := Nat.le_of_ble_eq_true hF
  refine ⟨Nat.le_refl _, Nat.le_refl _, fun k hk hs => ⟨rfl, rfl, fun f => ?_, fun _ => rfl, fun _ => rfl, fun _ => rfl⟩, fun _ _ => ⟨rfl, rfl⟩, fun f k hf => ⟨?_, rfl⟩⟩
  · exact if_neg (fun (z : f = F ∧ k = n) => hs (z.2 ▸ hS))
  · exact if_neg (fun z => by omega)
theorem Kp.fr (hF : Nat.ble 91 F = true) (hS : S n) : Kp g (gsfr g F n r) S 0 := by
  have hF := Nat.le_of_ble_eq_true hF
  refine ⟨Nat.le_refl _, Nat.le_refl _, fun k hk hs => ⟨rfl, rfl, fun _ => rfl, fun f => ?_, fun _ => rfl, fun _ => rfl⟩, fun _ _ => ⟨rfl, rfl⟩, fun f k hf => ⟨rfl, ?_⟩⟩
  · exact if_neg (fun (z : f = F ∧ k = n) => hs (z.2 ▸ hS))
  · exact if_neg (fun z => by omega)
theorem Kp.ai (hS : S n) : Kp g (gsai g n j x) S 0 := by
  refine ⟨Nat.le_refl _, Nat.le_refl _, fun k hk hs => ⟨rfl, rfl, fun _ => rfl, fun _ => rfl, fun i => ?_, fun _ => rfl⟩, fun _ _ => ⟨rfl, rfl⟩, fun f k hf => ⟨rfl, rfl⟩⟩
  exact if_neg (fun (z : k = n ∧ i = j) => hs (z.1 ▸ hS))
theorem Kp.ar (hS : S n) : Kp g (gsar g n j r) S 0 := by
  refine ⟨Nat.le_refl _, Nat.le_refl _, fun k hk hs => ⟨rfl, rfl, fun _ => rfl, fun _ => rfl, fun _ => rfl, fun i => ?_⟩, fun _ _ => ⟨rfl, rfl⟩, fun f k hf => ⟨rfl, rfl⟩⟩
  exact if_neg (fun (z : k = n ∧ i = j) => hs (z.1 ▸ hS))
theorem Kp.new (hW : GWf g) : Kp g (gnew g c L s) S (12 + s) := by
  refine ⟨Nat.le_succ _, ?_, fun k hk hs => ?_, fun k hk => ⟨if_neg (by omega), if_neg (by omega)⟩, fun f k hf => ?_⟩
  · show 12 * (gnc g + 1) + (gns g + s) ≤ 12 * gnc g + gns g + (12 + s); omega
  · have e : k ≠ gsz g := by omega
    exact ⟨if_neg e, if_neg e, fun _ => if_neg e, fun _ => if_neg e, fun _ => if_neg e, fun _ => if_neg e⟩
  · by_cases e : k = gsz g
    · have hz := (hW.2.2.2.1 k (by omega)).2 f
      exact ⟨(if_pos e).trans hz.1.symm, (if_pos e).trans hz.2.symm⟩
    · exact ⟨if_neg e, if_neg e⟩
theorem Kp.cpi {d : Nat} {sp dp k : Int} (hS : S d) : Kp g (gcpi g s d sp dp k) S 0 := by
  refine ⟨Nat.le_refl _, Nat.le_refl _, fun k hk hs => ⟨rfl, rfl, fun _ => rfl, fun _ => rfl, fun i => ?_, fun _ => rfl⟩, fun _ _ => ⟨rfl, rfl⟩, fun f k hf => ⟨rfl, rfl⟩⟩
  exact congrFun (if_neg (fun (z : k = d) => hs (z ▸ hS))) i
theorem Kp.cpr {d : Nat} {sp dp k : Int} (hS : S d) : Kp g (gcpr g s d sp dp k) S 0 := by
  refine ⟨Nat.le_refl _, Nat.le_refl _, fun k hk hs => ⟨rfl, rfl, fun _ => rfl, fun _ => rfl, fun _ => rfl, fun i => ?_⟩, fun _ _ => ⟨rfl, rfl⟩, fun f k hf => ⟨rfl, rfl⟩⟩
  exact congrFun (if_neg (fun (z : k = d) => hs (z ▸ hS))) i
theorem Kp.cl (hW : GWf g) : Kp g (gcl9 g c s) S (12 + glen g s) := by
  obtain ⟨h1, h2, h3, h4, h5⟩ := Kp.new (S := S) (c := c) (L := glen g s) (s := glen g s) hW
  refine ⟨h1, h2, fun k hk hs => ?_, h4, h5⟩
  obtain ⟨b1, b2, b3, b4, b5, b6⟩ := h3 k hk hs
  exact ⟨b1, b2, b3, b4, fun j => congrFun (if_neg (by omega)) j, b6⟩
theorem Kp.cls (h : Kp g g' S c) (hW : GWf g) {n k : Nat} (hc : gcls g n = k) (hk : (k == 0) = false) : gcls g' n = k := by
  rw [(h.2.2.2.1 n (hW.lt (by rw [hc]; exact fun z => by rw [z] at hk; cases hk))).1]; exact hc
theorem Kp.at (h : Kp g g' S c) (hW : GWf g) {n k : Nat} (hc : GAt g n k) (hk : (k == 0) = false) : GAt g' n k := ⟨h.cls hW hc.1 hk, hc.2⟩
/-- reading what was written -/
theorem gfi_eq : gfi (gsfi g F n x) F n = x := if_pos ⟨rfl, rfl⟩
theorem gfr_eq : gfr (gsfr g F n r) F n = r := if_pos ⟨rfl, rfl⟩
theorem gfi_nf {f k : Nat} (h : (f == F) = false) : gfi (gsfi g F n x) f k = gfi g f k := if_neg (fun z => by rw [z.1] at h; simp at h)
theorem gfr_nf {f k : Nat} (h : (f == F) = false) : gfr (gsfr g F n r) f k = gfr g f k := if_neg (fun z => by rw [z.1] at h; simp at h)
theorem gfi_nn {f k : Nat} (h : k ≠ n) : gfi (gsfi g F n x) f k = gfi g f k := if_neg (fun z => h z.2)
theorem gfr_nn {f k : Nat} (h : k ≠ n) : gfr (gsfr g F n r) f k = gfr g f k := if_neg (fun z => h z.2)
theorem gai_eq : gai (gsai g n j x) n j = x := if_pos ⟨rfl, rfl⟩
theorem gar_eq : gar (gsar g n j r) n j = r := if_pos ⟨rfl, rfl⟩
theorem gai_at {k : Nat} : gai (gsai g n j x) n k = if k = j then x else gai g n k := by
  show (if n = n ∧ k = j then x else gai g n k) = _
  by_cases h : k = j
  · rw [if_pos ⟨rfl, h⟩, if_pos h]
  · rw [if_neg (fun z => h z.2), if_neg h]
theorem gar_at {k : Nat} : gar (gsar g n j r) n k = if k = j then r else gar g n k := by
  show (if n = n ∧ k = j then r else gar g n k) = _
  by_cases h : k = j
  · rw [if_pos ⟨rfl, h⟩, if_pos h]
  · rw [if_neg (fun z => h z.2), if_neg h]
theorem gnew_fi {q f : Nat} (hq : q = gsz g) : gfi (gnew g c L s) f q = 0 := if_pos hq
theorem gnew_fr {q f : Nat} (hq : q = gsz g) : gfr (gnew g c L s) f q = none := if_pos hq
theorem gnew_ai {q k : Nat} (hq : q = gsz g) : gai (gnew g c L s) q k = 0 := if_pos hq
theorem gnew_ar {q k : Nat} (hq : q = gsz g) : gar (gnew g c L s) q k = none := if_pos hq
theorem gnew_len {q : Nat} (hq : q = gsz g) : glen (gnew g c L s) q = L := if_pos hq
theorem gnew_cls {q : Nat} (hq : q = gsz g) : gcls (gnew g c L s) q = c := if_pos hq
theorem gnew_same {k : Nat} (hk : k < gsz g) : SameC g (gnew g c L s) k := by
  have e : k ≠ gsz g := by omega
  exact ⟨if_neg e, if_neg e, fun _ => if_neg e, fun _ => if_neg e, fun _ => if_neg e, fun _ => if_neg e⟩
end Kp
/-- bits -/
theorem g_and255 {x : Int} (h : 0 ≤ x ∧ x < 256) : gbin 8 x 255 = some x := by
  have key : ∀ k : Fin 256, (Int32.ofInt (k.val : Int) &&& Int32.ofInt 255).toInt = (k.val : Int) := by decide +kernel
  obtain ⟨n, rfl⟩ := Int.eq_ofNat_of_zero_le h.1
  exact congrArg some (key ⟨n, by omega⟩)
theorem g_sh0 : (Int32.ofInt 0 &&& 31) = 0 := by decide
theorem g_o32 {x : Int} (h : inR x) : (Int32.ofInt x).toInt = x := Int32.toInt_ofInt_of_le (by have := h.1; omega) (by have := h.2; omega)
theorem g_shr0 {x : Int} (h : inR x) : gbin 6 x 0 = some x := by
  show some (Int32.ofInt x >>> (Int32.ofInt 0 &&& 31)).toInt = _
  rw [g_sh0, Int32.shiftRight_zero, g_o32 h]
theorem g_shl0 {x : Int} (h : inR x) : gbin 5 x 0 = some x := by
  show some (Int32.ofInt x <<< (Int32.ofInt 0 &&& 31)).toInt = _
  rw [g_sh0, Int32.shiftLeft_zero, g_o32 h]
