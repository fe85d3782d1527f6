set_option maxRecDepth 100000
/-! G AT THE START; cells that aren't G's -/
/-- only the constants; the heap has z cells -/
def g00 (z : Nat) : GH := ((fun n => if n < 1000 then kcls n else 0), (fun F n => if n < 1000 then kfi F n else 0), (fun F n => if n < 1000 then kfr F n else none), (fun n => if n < 1000 then klen n else 0), (fun n j => if n < 1000 then kai n j else 0), (fun n j => if n < 1000 then kar n j else none), z + 1000, 0, 0)
theorem kstr_R9 : ∀ l ∈ kstr, l.length < 100 ∧ ∀ c ∈ l, 0 ≤ c ∧ c < 128 := by decide
theorem kstr_get (i j : Nat) : 0 ≤ (kstr.getD i []).getD j 0 ∧ (kstr.getD i []).getD j 0 < 128 := by
  by_cases h : i < kstr.length
  · have h1 : kstr.getD i [] ∈ kstr := getD_mem h
    by_cases hj : j < (kstr.getD i []).length
    · exact (kstr_R9 _ h1).2 _ (getD_mem hj)
    · rw [List.getD_eq_getElem?_getD (l := kstr.getD i []), List.getElem?_eq_none (by omega)]
      decide
  · rw [List.getD_eq_getElem?_getD (l := kstr), List.getElem?_eq_none (by omega)]
    show 0 ≤ ([] : List Int).getD j 0 ∧ ([] : List Int).getD j 0 < 128
    rw [List.getD_nil]
    decide
theorem klen_R (n : Nat) : klen n ≤ 256 := by
  unfold klen
  split
  · by_cases h : n - 300 < kstr.length
    · have := (kstr_R9 _ (getD_mem (dd := []) h)).1
      omega
    · rw [List.getD_eq_getElem?_getD, List.getElem?_eq_none (by omega)]
      exact Nat.zero_le _
  · split
    · omega
    · split <;> omega
theorem kai_R (n j : Nat) : 0 ≤ kai n j ∧ kai n j < 128 := by
  unfold kai
  split
  · exact kstr_get _ _
  · split
    · omega
    · split <;> omega
theorem kfi_R (F n : Nat) : -128 ≤ kfi F n ∧ kfi F n < 128 := by
  unfold kfi
  split <;> omega
theorem g00_wf (z : Nat) : GWf (g00 z) := by
  refine ⟨fun n hn => ⟨if_pos hn, if_pos hn, fun F _ => ⟨if_pos hn, if_pos hn⟩, fun j => if_pos hn, fun j => if_pos hn⟩, ⟨fun F n => ?_, fun n j => ?_, fun n j _ => ?_, fun n => ?_, fun n j _ => ?_⟩, Nat.le_add_left _ _, fun n hn => ?_, fun n => ?_⟩
  · show inR (if n < 1000 then kfi F n else 0)
    have := kfi_R F n
    split <;> constructor <;> omega
  · show inL (if n < 1000 then kai n j else 0)
    have := kai_R n j
    split <;> constructor <;> omega
  · show inR (if n < 1000 then kai n j else 0)
    have := kai_R n j
    split <;> constructor <;> omega
  · show (if n < 1000 then klen n else 0) ≤ 65536
    have := klen_R n
    split <;> omega
  · show -128 ≤ (if n < 1000 then kai n j else 0) ∧ (if n < 1000 then kai n j else 0) < 128
    have := kai_R n j
    split <;> omega
  · have hn : z + 1000 ≤ n := hn
    have h1 : ¬ n < 1000 := by omega
    exact ⟨if_neg h1, fun F => ⟨if_neg h1, if_neg h1⟩⟩
  · show (if n < 1000 then klen n else 0) < 65536
    have := klen_R n
    split <;> omega
def S00 (z : Nat) : BS := ((fun n => if n < 1000 then Hk n else oNil), (fun F n => gfi (g00 z) F n), (fun F n => gfr (g00 z) F n), 0)
theorem S00_nil {z n : Nat} (h : 1000 ≤ n) : (S00 z).1 n = oNil := if_neg (by omega)
theorem g00_rep (z : Nat) : Rep (g00 z) (S00 z) := by
  refine ⟨fun n => n, fun _ => [], fun n h1 h2 h3 => absurd (S00_nil h1) h3, fun n h1 => S00_nil (by have h1 : z + 1000 ≤ n := h1; omega), fun n hn => ⟨if_pos hn, hn⟩, fun F n _ => ⟨rfl, rfl⟩, Nat.le_refl _⟩
/-- k cells more that aren't G's -/
def gskp (g : GH) (k : Nat) : GH := (gcls g, gfi g, gfr g, glen g, gai g, gar g, gsz g + k, gnc g, gns g)
section GSK
variable {g : GH} {k : Nat} {S : BS}
theorem gskp_wf (h : GWf g) : GWf (gskp g k) := by
  obtain ⟨h1, h2, h3, h4, h5⟩ := h
  exact ⟨h1, h2, Nat.le_trans h3 (Nat.le_add_right _ _), fun n hn => h4 n (Nat.le_trans (Nat.le_add_right _ _) hn), h5⟩
theorem gskp_kp : Kp g (gskp g k) (fun _ => False) 0 := ⟨Nat.le_add_right _ _, Nat.le_refl _, fun _ _ _ => SameC.rf, fun _ _ => ⟨rfl, rfl⟩, fun _ _ _ => ⟨rfl, rfl⟩⟩
theorem gskp_rep (hW : GWf g) (h : Rep g S) : Rep (gskp g k) S := by
  obtain ⟨ρ, ν, h⟩ := h
  have r2 := h.2.1
  refine ⟨ρ, ν, ?_⟩
  have h9 := RepI.mk (H' := S.1) (t' := S.2.2.2) (ρ' := ρ) (ν' := ν) h hW (gskp_kp (k := k)) (fun _ => False) (fun m _ z => z.elim) (fun m _ => rfl) (fun m _ _ => rfl) (fun m _ _ => rfl) (fun m z => z.elim) (fun m h1 _ h3 => absurd (r2 m h1) h3) (fun m h1 => r2 m (Nat.le_trans (Nat.le_add_right _ _) h1)) (fun l xs mc z => z.elim) (Nat.le_refl _)
  exact h9
theorem LInv.skp {i n : Nat} {w : PW} {σ : TS} {K : Nat → Nat} (h : LInv i n w g σ K) : LInv i n w (gskp g k) σ K := by
  obtain ⟨⟨hW, S, la, hR, hP⟩, h2⟩ := h
  exact ⟨⟨gskp_wf hW, S, la, gskp_rep hW hR, hP⟩, h2⟩
/-- the object itself -/
theorem LInv.at {i n : Nat} {w : PW} {σ : TS} {K : Nat → Nat} (h : LInv i n w g σ K) : GAt g (K 1) 1 := by
  obtain ⟨⟨hW, S, la, ⟨ρ, ν, r1, r2, r3, -⟩, cap, -, hL, -⟩, -⟩ := h
  have hx : S.1 (K 1) = oOwn 1 := hL.1.obx
  have hne : S.1 (K 1) ≠ oNil := by rw [hx]; exact oNe rfl
  have h1 : 1000 ≤ K 1 := by
    rcases Nat.lt_or_ge (K 1) 1000 with z | z
    · have := (r3 _ z).1
      rw [hx] at this
      unfold Hk at this
      split at this
      · exact absurd this (oNe rfl)
      · exact absurd this (oNe rfl)
    · exact z
  have h2 : K 1 < gsz g := by
    rcases Nat.lt_or_ge (K 1) (gsz g) with z | z
    · exact z
    · exact absurd (r2 _ z) hne
  have h3 := (r1 _ h1 h2 hne).2
  rw [hx] at h3
  exact h3.1
/-- what G has made so far -/
theorem LInv.room {i n : Nat} {w : PW} {σ : TS} {K : Nat → Nat} (h : LInv i n w g σ K) : 12 * gnc g + gns g ≤ 7192000 := by
  obtain ⟨⟨hW, S, la, ⟨ρ, ν, -, -, -, -, r5⟩, cap, hc, hL, -⟩, -, hK⟩ := h
  have h1 := hL.1.tt.1
  have h2 := bud_le hK.2.2.2.2.2.1 hK.2.2.2.2.2.2
  omega
end GSK
/-- the object itself: a new cell of class 1 -/
theorem g01_rep (z : Nat) : ∃ S1, Nw (S00 z) S1 (z + 1000) (oOwn 1) (12 + 18) ∧ Rep (gnew (g00 z) 1 0 18) S1 := by
  obtain ⟨ρ, ν, h⟩ := g00_rep z
  refine ⟨(upH (S00 z).1 (z + 1000) (oOwn 1), (S00 z).2.1, (S00 z).2.2.1, 0 + (12 + 18)), Nw.mk (oNe rfl) ?_, _, _, RepI.new (o := oOwn 1) (c := 1) (L := 0) (s := 18) h (g00_wf z) (fun ρ' H' => ⟨⟨if_pos rfl, Nat.le_add_left _ _⟩, by decide, by decide⟩)⟩
  refine ⟨Nat.le_add_left _ _, S00_nil (z := z) (n := z + 1000) (Nat.le_add_left 1000 z), fun F hF => ?_⟩
  have h1 : ¬ z + 1000 < 1000 := by omega
  exact ⟨if_neg h1, if_neg h1⟩
