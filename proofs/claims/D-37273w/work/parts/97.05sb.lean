set_option maxRecDepth 100000
/-! STRINGBUILDER: append, setLength(0), toString; Integer: valueOf, intValue, digits -/
def BSb (g : GH) (n : Nat) (s : List Int) (a cap : Nat) : Prop := GAt g n 14 ∧ gfi g 96 n = 0 ∧ gfi g 98 n = s.length ∧ gfr g 95 n = some a ∧ 1000 ≤ a ∧ PIs g a s cap ∧ 16 ≤ cap
theorem BSb.same {g g' : GH} {n a cap : Nat} {s : List Int} (h : BSb g n s a cap) (k : SameC g g' n) (k2 : SameC g g' a) : BSb g' n s a cap := ⟨⟨k.1.trans h.1.1, h.1.2⟩, (k.2.2.1 96).trans h.2.1, (k.2.2.1 98).trans h.2.2.1, (k.2.2.2.1 95).trans h.2.2.2.1, h.2.2.2.2.1, h.2.2.2.2.2.1.same k2, h.2.2.2.2.2.2⟩
theorem BSb.at {g : GH} {n a cap : Nat} {s : List Int} (h : BSb g n s a cap) : GAt g n 14 := h.1
/-- it holds s' now; what it costs is paid by the longer array -/
def SbQ (g g' : GH) (n a cap : Nat) (s' : List Int) : Prop := ∃ a' cap', Kp g g' (fun k => k = n ∨ k = a) (3 * (cap' - cap)) ∧ BSb g' n s' a' cap' ∧ (a' = a ∨ gsz g ≤ a') ∧ a' < gsz g' ∧ cap ≤ cap' ∧ (cap' = cap ∨ cap' ≤ 2 * s'.length)
section Sb
variable {d : Nat} {g : GH} {n a cap : Nat} {s : List Int}
theorem G_sbL (h : BSb g n s a cap) : GE (d + 1) gk_J8_length [aR n] g (vI s.length) := by
  obtain ⟨h1, h2, h3, h4, h5, h6, h7⟩ := h
  refine GMr.wf (fun hW => ?_)
  have := hW.2.1.1 98 n
  rw [h3] at this
  refine GM.of rfl rfl rfl ?_
  (repeat (first | (refine GW.pl rfl rfl ?_) | (refine GW.geti rfl rfl (by first | exact GHas.at (by assumption) rfl | exact GHas.k (by assumption) rfl rfl) (by first | assumption | rfl) (fun _ => ?_)) | (refine GW.getr rfl rfl (by first | exact GHas.at (by assumption) rfl | exact GHas.k (by assumption) rfl rfl) (by first | assumption | rfl) ?_)))
  exact GW.ir1 rfl rfl ⟨by omega, by omega⟩ ⟨_, rfl, rfl, rfl⟩
theorem G_sbLen (h : BSb g n s a cap) : GE (d + 2) gk_J9_length [aR n] g (vI s.length) := by
  have hh := h
  obtain ⟨h1, h2, h3, h4, h5, h6, h7⟩ := h
  refine GMr.wf (fun hW => ?_)
  have := hW.2.1.1 98 n
  rw [h3] at this
  refine GM.of rfl rfl rfl ?_
  (repeat (refine GW.pl rfl rfl ?_))
  refine GW.c1 rfl rfl (by first | exact Or.inl rfl | exact Or.inr (grecv_at (by assumption)) | exact Or.inr (grecv_c (by assumption)) | exact Or.inr (grecv_c (SIs.cls (by assumption))) | exact Or.inr (grecv_at (BSb.at (by assumption)))) (by first | exact Or.inl (by decide) | exact Or.inr (gnewv_at (by assumption))) rfl (G_sbL hh) ?_; rintro _ _ ⟨rfl, rfl⟩
  exact GW.ir1 rfl rfl ⟨by omega, by omega⟩ ⟨_, rfl, rfl, rfl⟩
theorem G_sbV (h : BSb g n s a cap) : GE (d + 1) gk_J8_getValue [aR n] g (vR (some a)) := by
  obtain ⟨h1, h2, h3, h4, h5, h6, h7⟩ := h
  refine GM.of rfl rfl rfl ?_
  (repeat (first | (refine GW.pl rfl rfl ?_) | (refine GW.geti rfl rfl (by first | exact GHas.at (by assumption) rfl | exact GHas.k (by assumption) rfl rfl) (by first | assumption | rfl) (fun _ => ?_)) | (refine GW.getr rfl rfl (by first | exact GHas.at (by assumption) rfl | exact GHas.k (by assumption) rfl rfl) (by first | assumption | rfl) ?_)))
  exact GW.aret rfl rfl ⟨_, rfl, rfl, rfl⟩
theorem G_sbI (h : BSb g n s a cap) : GE (d + 1) gk_J8_isLatin1 [aR n] g (vI 1) := by
  obtain ⟨h1, h2, h3, h4, h5, h6, h7⟩ := h
  refine GM.of rfl rfl rfl ?_
  (repeat (refine GW.pl rfl rfl ?_))
  refine GW.br rfl rfl (by first | omega | decide | (constructor <;> first | omega | decide)) (fun h8 => by first | (exfalso; omega) | exact absurd h8 (by decide)) (fun h8 => ?_)
  (repeat (first | (refine GW.pl rfl rfl ?_) | (refine GW.geti rfl rfl (by first | exact GHas.at (by assumption) rfl | exact GHas.k (by assumption) rfl rfl) (by first | assumption | rfl) (fun _ => ?_)) | (refine GW.getr rfl rfl (by first | exact GHas.at (by assumption) rfl | exact GHas.k (by assumption) rfl rfl) (by first | assumption | rfl) ?_)))
  refine GW.br rfl rfl (by first | omega | decide | (constructor <;> first | omega | decide)) (fun h8 => by first | (exfalso; omega) | exact absurd h8 (by decide)) (fun h8 => ?_)
  (repeat (refine GW.pl rfl rfl ?_))
  exact GW.ir2 rfl rfl (by decide) ⟨_, rfl, rfl, rfl⟩
theorem G_sbC (h : BSb g n s a cap) {i : Int} (hi : 0 ≤ i ∧ i < s.length) : GE (d + 3) gk_J8_charAt [aR n, aI i] g (vI (s.getD i.toNat 0)) := by
  obtain ⟨h1, h2, h3, h4, h5, h6, h7⟩ := h
  have hc := h6.getD (j := i.toNat) (by omega)
  refine GM.of rfl rfl rfl ?_
  (repeat (first | (refine GW.pl rfl rfl ?_) | (refine GW.geti rfl rfl (by first | exact GHas.at (by assumption) rfl | exact GHas.k (by assumption) rfl rfl) (by first | assumption | rfl) (fun _ => ?_)) | (refine GW.getr rfl rfl (by first | exact GHas.at (by assumption) rfl | exact GHas.k (by assumption) rfl rfl) (by first | assumption | rfl) ?_)))
  refine GW.alen rfl h6.1 rfl h6.2.1 (fun hl => ?_)
  (repeat (refine GW.pl rfl rfl ?_))
  refine GW.bin rfl (g_shr0 ⟨by omega, by omega⟩) ?_
  have := h6.2.2.1
  refine GW.min (v := (s.length : Int)) rfl (Nat.le_of_ble_eq_true rfl) (by constructor <;> constructor <;> omega) (by split <;> omega) ?_
  (repeat (refine GW.pl rfl rfl ?_))
  refine GW.c2 rfl rfl (by first | exact Or.inl rfl | exact Or.inr (grecv_at (by assumption)) | exact Or.inr (grecv_c (by assumption)) | exact Or.inr (grecv_c (SIs.cls (by assumption))) | exact Or.inr (grecv_at (BSb.at (by assumption)))) (by first | exact Or.inl (by decide) | exact Or.inr (gnewv_at (by assumption))) rfl (G_schk ⟨hi.1, hi.2, by omega⟩) ?_; rintro _ _ ⟨rfl, rfl⟩
  (repeat (refine GW.pl rfl rfl ?_))
  refine GW.br rfl rfl (by first | omega | decide | (constructor <;> first | omega | decide)) (fun h8 => by first | (exfalso; omega) | exact absurd h8 (by decide)) (fun h8 => ?_)
  (repeat (refine GW.pl rfl rfl ?_))
  refine GW.bald rfl h6.1 h6.2.1 (by omega) (h6.2.2.2.1 _ (by omega)) (fun _ => ?_)
  (repeat (refine GW.pl rfl rfl ?_))
  refine GW.bin rfl (g_and255 ⟨hc.1, by omega⟩) ?_
  refine GW.i2c rfl (by omega) ?_
  exact GW.ir3 rfl rfl (by omega) ⟨_, rfl, rfl, rfl⟩
theorem G_sbAt (h : BSb g n s a cap) {i : Int} (hi : 0 ≤ i ∧ i < s.length) : GE (d + 4) gk_J9_charAt [aR n, aI i] g (vI (s.getD i.toNat 0)) := by
  have hh := h
  obtain ⟨h1, h2, h3, h4, h5, h6, h7⟩ := h
  have hc := h6.getD (j := i.toNat) (by omega)
  refine GM.of rfl rfl rfl ?_
  (repeat (refine GW.pl rfl rfl ?_))
  refine GW.c2 rfl rfl (by first | exact Or.inl rfl | exact Or.inr (grecv_at (by assumption)) | exact Or.inr (grecv_c (by assumption)) | exact Or.inr (grecv_c (SIs.cls (by assumption))) | exact Or.inr (grecv_at (BSb.at (by assumption)))) (by first | exact Or.inl (by decide) | exact Or.inr (gnewv_at (by assumption))) rfl (G_sbC hh hi) ?_; rintro _ _ ⟨rfl, rfl⟩
  exact GW.ir3 rfl rfl (by omega) ⟨_, rfl, rfl, rfl⟩
/-- a new one: nothing in it, room for 16 -/
theorem G_sbI0 (h1 : GAt g n 14) (h2 : gfi g 98 n = 0) : GMr (d + 1) gk_J8_init [aR n, aI 16] g (fun r g' => r = none ∧ ∃ a, Kp g g' (fun k => k = n) 28 ∧ gsz g ≤ a ∧ a < gsz g' ∧ BSb g' n [] a 16) := by
  refine GMr.wf (fun hW => ?_)
  have hn : n < gsz g := hW.lt (by rw [h1.1]; decide)
  refine GM.of rfl rfl rfl ?_
  (repeat (refine GW.pl rfl rfl ?_))
  refine GW.oini rfl (And.right (show GAt _ _ _ by assumption)) (Nat.le_of_ble_eq_true rfl) ?_
  (repeat (refine GW.pl rfl rfl ?_))
  refine GW.br rfl rfl (by first | omega | decide | (constructor <;> first | omega | decide)) (fun h3 => by first | (exfalso; omega) | exact absurd h3 (by decide)) (fun h3 => ?_)
  (repeat (refine GW.pl rfl rfl ?_))
  refine GW.arr rfl rfl (by decide) (fun a ha hAa => ?_)
  have hs := gnew_same (g := g) (c := 101) (L := 16) (s := 16) hn
  have h1' : GAt (gnew g 101 16 16) n 14 := ⟨hs.1.trans h1.1, h1.2⟩
  refine GW.putr rfl rfl h1' rfl ?_
  (repeat (refine GW.pl rfl rfl ?_))
  refine GW.putb rfl rfl h1' rfl (by decide) ?_
  (repeat (refine GW.pl rfl rfl ?_))
  have hna : n ≠ a := by omega
  refine GW.ret rfl rfl ⟨_, rfl, rfl, a, ?_, by omega, by show a < gsz g + 1; omega, h1', gfi_eq, ?_, ?_, hAa.2, ⟨hAa.1, gnew_len (c := 101) (L := 16) (s := 16) ha, Nat.zero_le _, fun j hj => (by cases hj), fun x hx => (by cases hx)⟩, Nat.le_refl _⟩
  · exact ((Kp.new hW).trans ((Kp.fr (S := fun k => k = n) (F := 95) (n := n) (r := some a) rfl rfl).tr (Kp.fi rfl rfl)) (fun _ _ z => z))
  · exact (gfi_nf rfl).trans ((hs.2.2.1 98).trans h2)
  · exact (gfr_eq : gfr (gsfr (gnew g 101 16 16) 95 n (some a)) 95 n = some a)
theorem G_sbNew (h1 : GAt g n 14) (h2 : gfi g 98 n = 0) : GMr (d + 2) gk_J9_init [aR n] g (fun r g' => r = none ∧ ∃ a, Kp g g' (fun k => k = n) 28 ∧ gsz g ≤ a ∧ a < gsz g' ∧ BSb g' n [] a 16) := by
  refine GM.of rfl rfl rfl ?_
  (repeat (refine GW.pl rfl rfl ?_))
  refine GW.c2 rfl rfl (by first | exact Or.inl rfl | exact Or.inr (grecv_at (by assumption)) | exact Or.inr (grecv_c (by assumption)) | exact Or.inr (grecv_c (SIs.cls (by assumption))) | exact Or.inr (grecv_at (BSb.at (by assumption)))) (by first | exact Or.inl (by decide) | exact Or.inr (gnewv_at (by assumption))) rfl (G_sbI0 h1 h2) ?_
  rintro _ g' ⟨rfl, hq⟩
  exact GW.ret rfl rfl ⟨_, rfl, rfl, hq⟩
theorem G_newLen {x y z : Int} (hx : 0 ≤ x ∧ x < 70000) (hy : -70000 < y ∧ y < 70000) (hz : 0 < z ∧ z < 140000) {v : Int} (hv : (if y < z then z else y) = v) : GE (d + 1) gk_J12_newLength [aI x, aI y, aI z] g (vI (x + v)) := by
  have h1 : 0 < v ∧ v < 140000 := by rw [← hv]; split <;> omega
  refine GM.of rfl rfl rfl ?_
  (repeat (refine GW.pl rfl rfl ?_))
  refine GW.max rfl (Nat.le_of_ble_eq_true rfl) (by constructor <;> constructor <;> omega) hv ?_
  (repeat (refine GW.pl rfl rfl ?_))
  refine GW.br rfl rfl (by first | omega | decide | (constructor <;> first | omega | decide)) (fun h3 => by first | (exfalso; omega) | exact absurd h3 (by decide)) (fun h3 => ?_)
  (repeat (refine GW.pl rfl rfl ?_))
  refine GW.br rfl rfl (by first | omega | decide | (constructor <;> first | omega | decide)) (fun h3 => by first | (exfalso; omega) | exact absurd h3 (by decide)) (fun h3 => ?_)
  (repeat (refine GW.pl rfl rfl ?_))
  exact GW.ir1 rfl rfl ⟨by omega, by omega⟩ ⟨_, rfl, rfl, rfl⟩
theorem G_sbCap (h : BSb g n s a cap) {m : Int} (hm : (cap : Int) < m ∧ m < 30000) : GE (d + 2) gk_J8_newCapacity [aR n, aI m] g (vI (if m < 2 * cap + 2 then 2 * cap + 2 else m)) := by
  obtain ⟨h1, h2, h3, h4, h5, h6, h7⟩ := h
  refine GM.of rfl rfl rfl ?_
  (repeat (first | (refine GW.pl rfl rfl ?_) | (refine GW.geti rfl rfl (by first | exact GHas.at (by assumption) rfl | exact GHas.k (by assumption) rfl rfl) (by first | assumption | rfl) (fun _ => ?_)) | (refine GW.getr rfl rfl (by first | exact GHas.at (by assumption) rfl | exact GHas.k (by assumption) rfl rfl) (by first | assumption | rfl) ?_)))
  refine GW.alen rfl h6.1 rfl h6.2.1 (fun hl => ?_)
  (repeat (first | (refine GW.pl rfl rfl ?_) | (refine GW.geti rfl rfl (by first | exact GHas.at (by assumption) rfl | exact GHas.k (by assumption) rfl rfl) (by first | assumption | rfl) (fun _ => ?_)) | (refine GW.getr rfl rfl (by first | exact GHas.at (by assumption) rfl | exact GHas.k (by assumption) rfl rfl) (by first | assumption | rfl) ?_)))
  refine GW.bin rfl (g_shl0 ⟨by omega, by omega⟩) ?_
  (repeat (first | (refine GW.pl rfl rfl ?_) | (refine GW.geti rfl rfl (by first | exact GHas.at (by assumption) rfl | exact GHas.k (by assumption) rfl rfl) (by first | assumption | rfl) (fun _ => ?_)) | (refine GW.getr rfl rfl (by first | exact GHas.at (by assumption) rfl | exact GHas.k (by assumption) rfl rfl) (by first | assumption | rfl) ?_)))
  refine GW.bin rfl (g_shl0 ⟨by omega, by omega⟩) ?_
  (repeat (refine GW.pl rfl rfl ?_))
  refine GW.c3 rfl rfl (by first | exact Or.inl rfl | exact Or.inr (grecv_at (by assumption)) | exact Or.inr (grecv_c (by assumption)) | exact Or.inr (grecv_c (SIs.cls (by assumption))) | exact Or.inr (grecv_at (BSb.at (by assumption)))) (by first | exact Or.inl (by decide) | exact Or.inr (gnewv_at (by assumption))) rfl (G_newLen (v := if m - cap < cap + 2 then (cap : Int) + 2 else m - cap) ⟨by omega, by omega⟩ ⟨by omega, by omega⟩ ⟨by omega, by omega⟩ rfl) ?_; rintro _ _ ⟨rfl, rfl⟩
  have e : (cap : Int) + (if m - cap < cap + 2 then (cap : Int) + 2 else m - cap) = if m < 2 * (cap : Int) + 2 then 2 * (cap : Int) + 2 else m := by split <;> split <;> omega
  rw [e]
  have e2 : (if m < 2 * (cap : Int) + 2 then 2 * (cap : Int) + 2 else m) < 70000 ∧ 0 < (if m < 2 * (cap : Int) + 2 then 2 * (cap : Int) + 2 else m) := by split <;> omega
  (repeat (refine GW.pl rfl rfl ?_))
  refine GW.br rfl rfl (by first | omega | decide | (constructor <;> first | omega | decide)) (fun h8 => ?_) (fun h8 => by first | (exfalso; omega) | exact absurd h8 (by decide))
  (repeat (first | (refine GW.pl rfl rfl ?_) | (refine GW.geti rfl rfl (by first | exact GHas.at (by assumption) rfl | exact GHas.k (by assumption) rfl rfl) (by first | assumption | rfl) (fun _ => ?_)) | (refine GW.getr rfl rfl (by first | exact GHas.at (by assumption) rfl | exact GHas.k (by assumption) rfl rfl) (by first | assumption | rfl) ?_)))
  refine GW.bin rfl (g_shr0 ⟨by omega, by omega⟩) ?_
  exact GW.ir1 rfl rfl ⟨by omega, by omega⟩ ⟨_, rfl, rfl, rfl⟩
/-- room for m signs -/
theorem G_sbEns (h : BSb g n s a cap) {m : Int} (hm : 0 ≤ m ∧ m < 30000) : GMr (d + 3) gk_J8_ensureCapacityInternal [aR n, aI m] g (fun r g' => r = none ∧ ∃ a' cap', Kp g g' (fun k => k = n) (3 * (cap' - cap)) ∧ BSb g' n s a' cap' ∧ (a' = a ∨ gsz g ≤ a') ∧ a' < gsz g' ∧ cap ≤ cap' ∧ m ≤ cap' ∧ (cap' = cap ∨ cap' ≤ 2 * m)) := by
  refine GMr.wf (fun hW => ?_)
  have hh := h
  obtain ⟨h1, h2, h3, h4, h5, h6, h7⟩ := h
  have ha : a < gsz g := hW.lt (by rw [h6.1]; decide)
  refine GM.of rfl rfl rfl ?_
  (repeat (first | (refine GW.pl rfl rfl ?_) | (refine GW.geti rfl rfl (by first | exact GHas.at (by assumption) rfl | exact GHas.k (by assumption) rfl rfl) (by first | assumption | rfl) (fun _ => ?_)) | (refine GW.getr rfl rfl (by first | exact GHas.at (by assumption) rfl | exact GHas.k (by assumption) rfl rfl) (by first | assumption | rfl) ?_)))
  refine GW.alen rfl h6.1 rfl h6.2.1 (fun hl => ?_)
  (repeat (first | (refine GW.pl rfl rfl ?_) | (refine GW.geti rfl rfl (by first | exact GHas.at (by assumption) rfl | exact GHas.k (by assumption) rfl rfl) (by first | assumption | rfl) (fun _ => ?_)) | (refine GW.getr rfl rfl (by first | exact GHas.at (by assumption) rfl | exact GHas.k (by assumption) rfl rfl) (by first | assumption | rfl) ?_)))
  refine GW.bin rfl (g_shr0 ⟨by omega, by omega⟩) ?_
  (repeat (refine GW.pl rfl rfl ?_))
  refine GW.br rfl rfl (by first | omega | decide | (constructor <;> first | omega | decide)) (fun h8 => ?_) (fun h8 => ?_)
  · exact GW.ret rfl rfl ⟨_, rfl, rfl, a, cap, by rw [Nat.sub_self]; exact Kp.rf, hh, Or.inl rfl, ha, Nat.le_refl _, by omega, Or.inl rfl⟩
  (repeat (first | (refine GW.pl rfl rfl ?_) | (refine GW.geti rfl rfl (by first | exact GHas.at (by assumption) rfl | exact GHas.k (by assumption) rfl rfl) (by first | assumption | rfl) (fun _ => ?_)) | (refine GW.getr rfl rfl (by first | exact GHas.at (by assumption) rfl | exact GHas.k (by assumption) rfl rfl) (by first | assumption | rfl) ?_)))
  refine GW.c2 rfl rfl (by first | exact Or.inl rfl | exact Or.inr (grecv_at (by assumption)) | exact Or.inr (grecv_c (by assumption)) | exact Or.inr (grecv_c (SIs.cls (by assumption))) | exact Or.inr (grecv_at (BSb.at (by assumption)))) (by first | exact Or.inl (by decide) | exact Or.inr (gnewv_at (by assumption))) rfl (G_sbCap hh ⟨by omega, hm.2⟩) ?_; rintro _ _ ⟨rfl, rfl⟩
  have e3 : m ≤ (if m < 2 * (cap : Int) + 2 then 2 * (cap : Int) + 2 else m) ∧ (if m < 2 * (cap : Int) + 2 then 2 * (cap : Int) + 2 else m) ≤ 2 * m ∧ 2 * (cap : Int) + 2 ≤ (if m < 2 * (cap : Int) + 2 then 2 * (cap : Int) + 2 else m) := by split <;> omega
  generalize (if m < 2 * (cap : Int) + 2 then 2 * (cap : Int) + 2 else m) = L at e3 ⊢
  (repeat (first | (refine GW.pl rfl rfl ?_) | (refine GW.geti rfl rfl (by first | exact GHas.at (by assumption) rfl | exact GHas.k (by assumption) rfl rfl) (by first | assumption | rfl) (fun _ => ?_)) | (refine GW.getr rfl rfl (by first | exact GHas.at (by assumption) rfl | exact GHas.k (by assumption) rfl rfl) (by first | assumption | rfl) ?_)))
  refine GW.bin rfl (g_shl0 ⟨by omega, by omega⟩) ?_
  refine GW.c2 rfl rfl (by first | exact Or.inl rfl | exact Or.inr (grecv_at (by assumption)) | exact Or.inr (grecv_c (by assumption)) | exact Or.inr (grecv_c (SIs.cls (by assumption))) | exact Or.inr (grecv_at (BSb.at (by assumption)))) (by first | exact Or.inl (by decide) | exact Or.inr (gnewv_at (by assumption))) rfl (G_cpB h6 (x := L) ⟨by omega, by omega⟩) ?_
  rintro r g1 hr
  obtain ⟨q, rfl, hAq, hP, hK, hq1, hq2⟩ := hr.at
  have hn : n < gsz g := hW.lt (by rw [h1.1]; decide)
  have hs := hK.2.2.1 n hn (fun z => z)
  have h1' : GAt g1 n 14 := ⟨hs.1.trans h1.1, h1.2⟩
  refine GW.putr rfl rfl h1' rfl ?_
  refine GW.ret rfl rfl ⟨_, rfl, rfl, q, L.toNat, ?_, ⟨h1', (hs.2.2.1 96).trans h2, (hs.2.2.1 98).trans h3, gfr_eq, hAq.2, hP, by omega⟩, Or.inr hq1, hq2, by omega, by omega, by omega⟩
  refine ((hK.trans (S2 := fun _ => False) Kp.rf (fun _ _ z => z)).mono (S' := fun k => k = n) (c' := 3 * (L.toNat - cap)) (by omega) (fun _ _ z => z.elim)).trans (Kp.fr (S := fun k => k = n) rfl rfl) (fun _ _ z => z)
/-- append(char) -/
theorem G_sbApC (h : BSb g n s a cap) {c : Int} (hc : 0 ≤ c ∧ c < 128) (hl : s.length < 29000) : GMr (d + 4) gk_J8_append [aR n, aI c] g (fun r g' => r = vR (some n) ∧ SbQ g g' n a cap (s ++ [c])) := by
  have hh := h
  obtain ⟨h1, h2, h3, h4, h5, h6, h7⟩ := h
  refine GM.of rfl rfl rfl ?_
  (repeat (first | (refine GW.pl rfl rfl ?_) | (refine GW.geti rfl rfl (by first | exact GHas.at (by assumption) rfl | exact GHas.k (by assumption) rfl rfl) (by first | assumption | rfl) (fun _ => ?_)) | (refine GW.getr rfl rfl (by first | exact GHas.at (by assumption) rfl | exact GHas.k (by assumption) rfl rfl) (by first | assumption | rfl) ?_)))
  refine GW.c2 rfl rfl (by first | exact Or.inl rfl | exact Or.inr (grecv_at (by assumption)) | exact Or.inr (grecv_c (by assumption)) | exact Or.inr (grecv_c (SIs.cls (by assumption))) | exact Or.inr (grecv_at (BSb.at (by assumption)))) (by first | exact Or.inl (by decide) | exact Or.inr (gnewv_at (by assumption))) rfl (G_sbEns hh (m := s.length + 1) ⟨by omega, by omega⟩) ?_
  rintro _ g1 ⟨rfl, a1, cap1, hK, hB, ha1, ha2, hc1, hc2, hc3⟩
  have hB' := hB
  obtain ⟨k1, k2, k3, k4, k5, k6, k7⟩ := hB
  (repeat (refine GW.pl rfl rfl ?_))
  refine GW.c1 rfl rfl (by first | exact Or.inl rfl | exact Or.inr (grecv_at (by assumption)) | exact Or.inr (grecv_c (by assumption)) | exact Or.inr (grecv_c (SIs.cls (by assumption))) | exact Or.inr (grecv_at (BSb.at (by assumption)))) (by first | exact Or.inl (by decide) | exact Or.inr (gnewv_at (by assumption))) rfl (G_sbI hB') ?_; rintro _ _ ⟨rfl, rfl⟩
  refine GW.br rfl rfl (by first | omega | decide | (constructor <;> first | omega | decide)) (fun h8 => by first | (exfalso; omega) | exact absurd h8 (by decide)) (fun h8 => ?_)
  (repeat (refine GW.pl rfl rfl ?_))
  refine GW.c1 rfl rfl (by first | exact Or.inl rfl | exact Or.inr (grecv_at (by assumption)) | exact Or.inr (grecv_c (by assumption)) | exact Or.inr (grecv_c (SIs.cls (by assumption))) | exact Or.inr (grecv_at (BSb.at (by assumption)))) (by first | exact Or.inl (by decide) | exact Or.inr (gnewv_at (by assumption))) rfl (G_canE hc) ?_; rintro _ _ ⟨rfl, rfl⟩
  refine GW.br rfl rfl (by first | omega | decide | (constructor <;> first | omega | decide)) (fun h8 => by first | (exfalso; omega) | exact absurd h8 (by decide)) (fun h8 => ?_)
  (repeat (first | (refine GW.pl rfl rfl ?_) | (refine GW.geti rfl rfl (by first | exact GHas.at (by assumption) rfl | exact GHas.k (by assumption) rfl rfl) (by first | assumption | rfl) (fun _ => ?_)) | (refine GW.getr rfl rfl (by first | exact GHas.at (by assumption) rfl | exact GHas.k (by assumption) rfl rfl) (by first | assumption | rfl) ?_)))
  have hna : n ≠ a1 := fun z => by rw [← z] at k6; have := k6.1; rw [k1.1] at this; cases this
  refine GW.puti rfl rfl k1 rfl ⟨by omega, by omega⟩ ?_
  (repeat (refine GW.pl rfl rfl ?_))
  refine GW.i2b rfl (by omega) ?_
  refine GW.bast (L := cap1) rfl (⟨k6.1, k5⟩ : GAt g1 a1 101) k6.2.1 (by omega) (by omega) ?_
  (repeat (refine GW.pl rfl rfl ?_))
  refine GW.aret rfl rfl ⟨_, rfl, rfl, a1, cap1, ?_, ⟨k1, (gfi_nf (g := g1) (F := 98) (n := n) (x := (s.length : Int) + 1) rfl).trans k2, ?_, k4, k5, ⟨k6.1, k6.2.1, ?_, fun j hj => ?_, fun x hx => ?_⟩, k7⟩, ha1, ha2, hc1, ?_⟩
  · refine (hK.mono (S' := fun k => k = n ∨ k = a) (Nat.le_refl _) (fun _ _ z => Or.inl z)).trans (S2 := fun k => k = n ∨ k = a1) ((Kp.fi (S := fun k => k = n ∨ k = a1) rfl (Or.inl rfl)).tr (Kp.ai (Or.inr rfl))) (fun k hk z => ?_)
    rcases z with z | z
    · exact Or.inl z
    · rcases ha1 with z2 | z2
      · exact Or.inr (by omega)
      · omega
  · show (if 98 = 98 ∧ n = n then (s.length : Int) + 1 else _) = _
    rw [if_pos ⟨rfl, rfl⟩, List.length_append]; rfl
  · rw [List.length_append]; show s.length + 1 ≤ _; omega
  · rw [List.length_append] at hj
    have hj : j < s.length + 1 := hj
    show gai (gsai g1 a1 (s.length : Int).toNat c) a1 j = _
    rw [gai_at, Int.toNat_natCast]
    by_cases hjs : j = s.length
    · subst hjs
      rw [if_pos rfl, List.getD_eq_getElem?_getD, List.getElem?_append_right (Nat.le_refl _), Nat.sub_self]; rfl
    · rw [if_neg hjs, k6.2.2.2.1 j (by omega), List.getD_eq_getElem?_getD, List.getD_eq_getElem?_getD, List.getElem?_append_left (by omega)]
  · rcases List.mem_append.mp hx with hx | hx
    · exact k6.2.2.2.2 x hx
    · rw [List.mem_singleton] at hx; omega
  · rw [List.length_append]; show _ ∨ _ ≤ 2 * (s.length + 1); omega
theorem G_sbAppC (h : BSb g n s a cap) {c : Int} (hc : 0 ≤ c ∧ c < 128) (hl : s.length < 29000) : GMr (d + 5) gk_J9_append [aR n, aI c] g (fun r g' => r = vR (some n) ∧ SbQ g g' n a cap (s ++ [c])) := by
  refine GM.of rfl rfl rfl ?_
  (repeat (refine GW.pl rfl rfl ?_))
  refine GW.c2 rfl rfl (by first | exact Or.inl rfl | exact Or.inr (grecv_at (by assumption)) | exact Or.inr (grecv_c (by assumption)) | exact Or.inr (grecv_c (SIs.cls (by assumption))) | exact Or.inr (grecv_at (BSb.at (by assumption)))) (by first | exact Or.inl (by decide) | exact Or.inr (gnewv_at (by assumption))) rfl (G_sbApC h hc hl) ?_
  rintro _ g' ⟨rfl, hq⟩
  (repeat (refine GW.pl rfl rfl ?_))
  exact GW.aret rfl rfl ⟨_, rfl, rfl, hq⟩
/-- append(String) -/
theorem G_getB (h : PIs g a s cap) (h5 : 1000 ≤ a) {b m : Nat} {t : List Int} (ht : SIs g m t b) (hl : (s.length : Int) + t.length ≤ cap) : GMr (d + 2) gk_J10_getBytes [aR m, aR a, aI s.length, aI 0] g (fun r g' => r = none ∧ g' = gcpi g b a 0 s.length t.length) := by
  have hh := ht
  obtain ⟨t1, t2, t3, t4⟩ := ht
  refine GMr.wf (fun hW => ?_)
  have hc := hW.2.2.2.2 a
  rw [h.2.1] at hc
  refine GM.of rfl rfl rfl ?_
  (repeat (refine GW.pl rfl rfl ?_))
  refine GW.c1 rfl rfl (by first | exact Or.inl rfl | exact Or.inr (grecv_at (by assumption)) | exact Or.inr (grecv_c (by assumption)) | exact Or.inr (grecv_c (SIs.cls (by assumption))) | exact Or.inr (grecv_at (BSb.at (by assumption)))) (by first | exact Or.inl (by decide) | exact Or.inr (gnewv_at (by assumption))) rfl (G_coder hh) ?_; rintro _ _ ⟨rfl, rfl⟩
  (repeat (refine GW.pl rfl rfl ?_))
  refine GW.br rfl rfl (by first | omega | decide | (constructor <;> first | omega | decide)) (fun h8 => by first | (exfalso; omega) | exact absurd h8 (by decide)) (fun h8 => ?_)
  (repeat (first | (refine GW.pl rfl rfl ?_) | (refine GW.geti rfl rfl (by first | exact GHas.at (by assumption) rfl | exact GHas.k (by assumption) rfl rfl) (by first | assumption | rfl) (fun _ => ?_)) | (refine GW.getr rfl rfl (by first | exact GHas.at (by assumption) rfl | exact GHas.k (by assumption) rfl rfl) (by first | assumption | rfl) ?_)))
  refine GW.bin rfl (g_shl0 ⟨by omega, by omega⟩) ?_
  (repeat (first | (refine GW.pl rfl rfl ?_) | (refine GW.geti rfl rfl (by first | exact GHas.at (by assumption) rfl | exact GHas.k (by assumption) rfl rfl) (by first | assumption | rfl) (fun _ => ?_)) | (refine GW.getr rfl rfl (by first | exact GHas.at (by assumption) rfl | exact GHas.k (by assumption) rfl rfl) (by first | assumption | rfl) ?_)))
  refine GW.alen rfl t4.1 rfl t4.2.1 (fun hl2 => ?_)
  refine GW.cpi rfl (⟨h.1, h5⟩ : GAt g a 101) t4.1 (Or.inl rfl) (Nat.le_of_ble_eq_true rfl) ?_ ?_
  · rw [h.2.1, t4.2.1]
    refine ⟨by omega, by decide, by omega, by omega, by omega⟩
  (repeat (refine GW.pl rfl rfl ?_))
  exact GW.ret rfl rfl ⟨_, rfl, rfl, rfl⟩
theorem G_sbPut (h : BSb g n s a cap) {b m : Nat} {t : List Int} (ht : SIs g m t b) (hl : (s.length : Int) + t.length ≤ cap) : GMr (d + 3) gk_J8_putStringAt [aR n, aI s.length, aR m] g (fun r g' => r = none ∧ g' = gcpi g b a 0 s.length t.length) := by
  have hh := h
  obtain ⟨h1, h2, h3, h4, h5, h6, h7⟩ := h
  have inner : ∀ d, GE (d + 2) gk_J8_inflateIfNeededFor [aR n, aR m] g none := by
    intro d
    refine GM.of rfl rfl rfl ?_
    (repeat (refine GW.pl rfl rfl ?_))
    refine GW.br rfl rfl (by first | omega | decide | (constructor <;> first | omega | decide)) (fun h8 => by first | (exfalso; omega) | exact absurd h8 (by decide)) (fun h8 => ?_)
    (repeat (first | (refine GW.pl rfl rfl ?_) | (refine GW.geti rfl rfl (by first | exact GHas.at (by assumption) rfl | exact GHas.k (by assumption) rfl rfl) (by first | assumption | rfl) (fun _ => ?_)) | (refine GW.getr rfl rfl (by first | exact GHas.at (by assumption) rfl | exact GHas.k (by assumption) rfl rfl) (by first | assumption | rfl) ?_)))
    refine GW.c1 rfl rfl (by first | exact Or.inl rfl | exact Or.inr (grecv_at (by assumption)) | exact Or.inr (grecv_c (by assumption)) | exact Or.inr (grecv_c (SIs.cls (by assumption))) | exact Or.inr (grecv_at (BSb.at (by assumption)))) (by first | exact Or.inl (by decide) | exact Or.inr (gnewv_at (by assumption))) rfl (G_coder ht) ?_; rintro _ _ ⟨rfl, rfl⟩
    refine GW.br rfl rfl (by first | omega | decide | (constructor <;> first | omega | decide)) (fun h8 => ?_) (fun h8 => by first | (exfalso; omega) | exact absurd h8 (by decide))
    exact GW.ret rfl rfl ⟨_, rfl, rfl, rfl⟩
  refine GM.of rfl rfl rfl ?_
  (repeat (refine GW.pl rfl rfl ?_))
  refine GW.c2 rfl rfl (by first | exact Or.inl rfl | exact Or.inr (grecv_at (by assumption)) | exact Or.inr (grecv_c (by assumption)) | exact Or.inr (grecv_c (SIs.cls (by assumption))) | exact Or.inr (grecv_at (BSb.at (by assumption)))) (by first | exact Or.inl (by decide) | exact Or.inr (gnewv_at (by assumption))) rfl (inner _) ?_; rintro _ _ ⟨rfl, rfl⟩
  (repeat (first | (refine GW.pl rfl rfl ?_) | (refine GW.geti rfl rfl (by first | exact GHas.at (by assumption) rfl | exact GHas.k (by assumption) rfl rfl) (by first | assumption | rfl) (fun _ => ?_)) | (refine GW.getr rfl rfl (by first | exact GHas.at (by assumption) rfl | exact GHas.k (by assumption) rfl rfl) (by first | assumption | rfl) ?_)))
  refine GW.c4 rfl rfl (by first | exact Or.inl rfl | exact Or.inr (grecv_at (by assumption)) | exact Or.inr (grecv_c (by assumption)) | exact Or.inr (grecv_c (SIs.cls (by assumption))) | exact Or.inr (grecv_at (BSb.at (by assumption)))) (by first | exact Or.inl (by decide) | exact Or.inr (gnewv_at (by assumption))) rfl (G_getB h6 h5 ht hl) ?_
  rintro _ g' ⟨rfl, rfl⟩
  exact GW.ret rfl rfl ⟨_, rfl, rfl, rfl⟩
theorem G_sbApS (h : BSb g n s a cap) {b m : Nat} {t : List Int} (ht : SIs g m t b) (hb : b ≠ a) (hl : s.length + t.length < 29000) : GMr (d + 4) gk_J8_append_3 [aR n, aR m] g (fun r g' => r = vR (some n) ∧ SbQ g g' n a cap (s ++ t)) := by
  refine GMr.wf (fun hW => ?_)
  have hh := h
  obtain ⟨h1, h2, h3, h4, h5, h6, h7⟩ := h
  have hm : m < gsz g := hW.lt (by rw [ht.1]; decide)
  have hbl : b < gsz g := hW.lt (by rw [ht.2.2.2.1]; decide)
  have hmn : m ≠ n := fun z => by have := ht.1; rw [z, h1.1] at this; cases this
  have hbn : b ≠ n := fun z => by have := ht.2.2.2.1; rw [z, h1.1] at this; cases this
  refine GM.of rfl rfl rfl ?_
  (repeat (refine GW.pl rfl rfl ?_))
  refine GW.nul rfl rfl (gok_c (by rw [ht.1]; decide)) ?_
  (repeat (refine GW.pl rfl rfl ?_))
  refine GW.c1 rfl rfl (by first | exact Or.inl rfl | exact Or.inr (grecv_at (by assumption)) | exact Or.inr (grecv_c (by assumption)) | exact Or.inr (grecv_c (SIs.cls (by assumption))) | exact Or.inr (grecv_at (BSb.at (by assumption)))) (by first | exact Or.inl (by decide) | exact Or.inr (gnewv_at (by assumption))) rfl (G_slen ht) ?_; rintro _ _ ⟨rfl, rfl⟩
  (repeat (first | (refine GW.pl rfl rfl ?_) | (refine GW.geti rfl rfl (by first | exact GHas.at (by assumption) rfl | exact GHas.k (by assumption) rfl rfl) (by first | assumption | rfl) (fun _ => ?_)) | (refine GW.getr rfl rfl (by first | exact GHas.at (by assumption) rfl | exact GHas.k (by assumption) rfl rfl) (by first | assumption | rfl) ?_)))
  refine GW.c2 rfl rfl (by first | exact Or.inl rfl | exact Or.inr (grecv_at (by assumption)) | exact Or.inr (grecv_c (by assumption)) | exact Or.inr (grecv_c (SIs.cls (by assumption))) | exact Or.inr (grecv_at (BSb.at (by assumption)))) (by first | exact Or.inl (by decide) | exact Or.inr (gnewv_at (by assumption))) rfl (G_sbEns hh (m := s.length + t.length) ⟨by omega, by omega⟩) ?_
  rintro _ g1 ⟨rfl, a1, cap1, hK, hB, ha1, ha2, hc1, hc2, hc3⟩
  have ht1 : SIs g1 m t b := ht.same (hK.2.2.1 m hm hmn) (hK.2.2.1 b hbl hbn)
  have hB' := hB
  obtain ⟨k1, k2, k3, k4, k5, k6, k7⟩ := hB
  (repeat (first | (refine GW.pl rfl rfl ?_) | (refine GW.geti rfl rfl (by first | exact GHas.at (by assumption) rfl | exact GHas.k (by assumption) rfl rfl) (by first | assumption | rfl) (fun _ => ?_)) | (refine GW.getr rfl rfl (by first | exact GHas.at (by assumption) rfl | exact GHas.k (by assumption) rfl rfl) (by first | assumption | rfl) ?_)))
  refine GW.c3 rfl rfl (by first | exact Or.inl rfl | exact Or.inr (grecv_at (by assumption)) | exact Or.inr (grecv_c (by assumption)) | exact Or.inr (grecv_c (SIs.cls (by assumption))) | exact Or.inr (grecv_at (BSb.at (by assumption)))) (by first | exact Or.inl (by decide) | exact Or.inr (gnewv_at (by assumption))) rfl (G_sbPut hB' ht1 hc2) ?_
  rintro _ _ ⟨rfl, rfl⟩
  have hb1 : b ≠ a1 := by rcases ha1 with z | z <;> omega
  (repeat (refine GW.pl rfl rfl ?_))
  refine GW.geti (v := (s.length : Int)) rfl rfl (GHas.at k1 rfl) k3 (fun _ => ?_)
  (repeat (refine GW.pl rfl rfl ?_))
  refine GW.puti rfl rfl k1 rfl ⟨by omega, by omega⟩ ?_
  (repeat (refine GW.pl rfl rfl ?_))
  refine GW.aret rfl rfl ⟨_, rfl, rfl, a1, cap1, ?_, ⟨k1, (gfi_nf rfl).trans k2, ?_, k4, k5, ⟨k6.1, k6.2.1, ?_, fun j hj => ?_, fun x hx => ?_⟩, k7⟩, ha1, ha2, hc1, ?_⟩
  · refine (hK.mono (S' := fun k => k = n ∨ k = a) (Nat.le_refl _) (fun _ _ z => Or.inl z)).trans (S2 := fun k => k = n ∨ k = a1) ((Kp.cpi (S := fun k => k = n ∨ k = a1) (Or.inr rfl)).tr (Kp.fi rfl (Or.inl rfl))) (fun k hk z => ?_)
    rcases z with z | z
    · exact Or.inl z
    · rcases ha1 with z2 | z2
      · exact Or.inr (by omega)
      · omega
  · show (if 98 = 98 ∧ n = n then (s.length : Int) + t.length else _) = _
    rw [if_pos ⟨rfl, rfl⟩, List.length_append]; omega
  · rw [List.length_append]; omega
  · rw [List.length_append] at hj
    show gai (gcpi g1 b a1 0 s.length t.length) a1 j = _
    rw [gcpi_at, Int.toNat_natCast, Int.toNat_natCast]
    by_cases hjs : j < s.length
    · rw [if_neg (by omega), k6.2.2.2.1 j hjs, List.getD_eq_getElem?_getD, List.getD_eq_getElem?_getD, List.getElem?_append_left hjs]
    · rw [if_pos (by omega)]
      show gai g1 b (0 + (j - s.length)) = _
      rw [Nat.zero_add, ht1.2.2.2.2.2.2.1 _ (by omega), List.getD_eq_getElem?_getD, List.getD_eq_getElem?_getD, List.getElem?_append_right (by omega)]
  · rcases List.mem_append.mp hx with hx | hx
    · exact k6.2.2.2.2 x hx
    · exact ht.2.2.2.2.2.2.2 x hx
  · rw [List.length_append]; omega
theorem G_sbAppS (h : BSb g n s a cap) {b m : Nat} {t : List Int} (ht : SIs g m t b) (hb : b ≠ a) (hl : s.length + t.length < 29000) : GMr (d + 5) gk_J9_append_3 [aR n, aR m] g (fun r g' => r = vR (some n) ∧ SbQ g g' n a cap (s ++ t)) := by
  refine GM.of rfl rfl rfl ?_
  (repeat (refine GW.pl rfl rfl ?_))
  refine GW.c2 rfl rfl (by first | exact Or.inl rfl | exact Or.inr (grecv_at (by assumption)) | exact Or.inr (grecv_c (by assumption)) | exact Or.inr (grecv_c (SIs.cls (by assumption))) | exact Or.inr (grecv_at (BSb.at (by assumption)))) (by first | exact Or.inl (by decide) | exact Or.inr (gnewv_at (by assumption))) rfl (G_sbApS h ht hb hl) ?_
  rintro _ g' ⟨rfl, hq⟩
  (repeat (refine GW.pl rfl rfl ?_))
  exact GW.aret rfl rfl ⟨_, rfl, rfl, hq⟩
/-- setLength(0) -/
theorem G_sbSet0 (h : BSb g n s a cap) : GMr (d + 4) gk_J8_setLength [aR n, aI 0] g (fun r g' => r = none ∧ Kp g g' (fun k => k = n) 0 ∧ BSb g' n [] a cap) := by
  refine GMr.wf (fun hW => ?_)
  have hh := h
  obtain ⟨h1, h2, h3, h4, h5, h6, h7⟩ := h
  have hc := hW.2.2.2.2 a
  rw [h6.2.1] at hc
  have hsl := h6.2.2.1
  have P0 : PIs g a [] cap := ⟨h6.1, h6.2.1, Nat.zero_le _, fun j hj => (by cases hj), fun x hx => (by cases hx)⟩
  have ens : ∀ d, GE (d + 1) gk_J8_ensureCapacityInternal [aR n, aI 0] g none := by
    intro d
    refine GM.of rfl rfl rfl ?_
    (repeat (first | (refine GW.pl rfl rfl ?_) | (refine GW.geti rfl rfl (by first | exact GHas.at (by assumption) rfl | exact GHas.k (by assumption) rfl rfl) (by first | assumption | rfl) (fun _ => ?_)) | (refine GW.getr rfl rfl (by first | exact GHas.at (by assumption) rfl | exact GHas.k (by assumption) rfl rfl) (by first | assumption | rfl) ?_)))
    refine GW.alen rfl h6.1 rfl h6.2.1 (fun hl => ?_)
    (repeat (first | (refine GW.pl rfl rfl ?_) | (refine GW.geti rfl rfl (by first | exact GHas.at (by assumption) rfl | exact GHas.k (by assumption) rfl rfl) (by first | assumption | rfl) (fun _ => ?_)) | (refine GW.getr rfl rfl (by first | exact GHas.at (by assumption) rfl | exact GHas.k (by assumption) rfl rfl) (by first | assumption | rfl) ?_)))
    refine GW.bin rfl (g_shr0 ⟨by omega, by omega⟩) ?_
    (repeat (refine GW.pl rfl rfl ?_))
    refine GW.br rfl rfl (by first | omega | decide | (constructor <;> first | omega | decide)) (fun h8 => ?_) (fun h8 => by first | (exfalso; omega) | exact absurd h8 (by decide))
    exact GW.ret rfl rfl ⟨_, rfl, rfl, rfl⟩
  refine GM.of rfl rfl rfl ?_
  (repeat (refine GW.pl rfl rfl ?_))
  refine GW.br rfl rfl (by first | omega | decide | (constructor <;> first | omega | decide)) (fun h8 => ?_) (fun h8 => by first | (exfalso; omega) | exact absurd h8 (by decide))
  (repeat (refine GW.pl rfl rfl ?_))
  refine GW.c2 rfl rfl (by first | exact Or.inl rfl | exact Or.inr (grecv_at (by assumption)) | exact Or.inr (grecv_c (by assumption)) | exact Or.inr (grecv_c (SIs.cls (by assumption))) | exact Or.inr (grecv_at (BSb.at (by assumption)))) (by first | exact Or.inl (by decide) | exact Or.inr (gnewv_at (by assumption))) rfl (ens _) ?_; rintro _ _ ⟨rfl, rfl⟩
  (repeat (first | (refine GW.pl rfl rfl ?_) | (refine GW.geti rfl rfl (by first | exact GHas.at (by assumption) rfl | exact GHas.k (by assumption) rfl rfl) (by first | assumption | rfl) (fun _ => ?_)) | (refine GW.getr rfl rfl (by first | exact GHas.at (by assumption) rfl | exact GHas.k (by assumption) rfl rfl) (by first | assumption | rfl) ?_)))
  refine GW.br rfl rfl (by first | omega | decide | (constructor <;> first | omega | decide)) (fun h8 => ?_) (fun h8 => by first | (exfalso; omega) | exact absurd h8 (by decide))
  (repeat (first | (refine GW.pl rfl rfl ?_) | (refine GW.geti rfl rfl (by first | exact GHas.at (by assumption) rfl | exact GHas.k (by assumption) rfl rfl) (by first | assumption | rfl) (fun _ => ?_)) | (refine GW.getr rfl rfl (by first | exact GHas.at (by assumption) rfl | exact GHas.k (by assumption) rfl rfl) (by first | assumption | rfl) ?_)))
  refine GW.br rfl rfl (by first | omega | decide | (constructor <;> first | omega | decide)) (fun h9 => ?_) (fun h9 => ?_)
  · (repeat (refine GW.pl rfl rfl ?_))
    refine GW.puti rfl rfl h1 rfl (by decide) ?_
    exact GW.ret rfl rfl ⟨_, rfl, rfl, Kp.fi rfl rfl, h1, (gfi_nf rfl).trans h2, gfi_eq, h4, h5, P0, h7⟩
  · (repeat (refine GW.pl rfl rfl ?_))
    refine GW.putz rfl rfl h1 rfl (by decide) ?_
    (repeat (refine GW.pl rfl rfl ?_))
    refine GW.puti rfl rfl h1 rfl (by decide) ?_
    exact GW.ret rfl rfl ⟨_, rfl, rfl, (Kp.fi (S := fun k => k = n) (F := 97) (n := n) (x := 1) rfl rfl).tr (Kp.fi rfl rfl), h1, (gfi_nf rfl).trans ((gfi_nf rfl).trans h2), gfi_eq, h4, h5, P0, h7⟩
theorem G_sbSetL (h : BSb g n s a cap) : GMr (d + 5) gk_J9_setLength [aR n, aI 0] g (fun r g' => r = none ∧ Kp g g' (fun k => k = n) 0 ∧ BSb g' n [] a cap) := by
  refine GM.of rfl rfl rfl ?_
  (repeat (refine GW.pl rfl rfl ?_))
  refine GW.c2 rfl rfl (by first | exact Or.inl rfl | exact Or.inr (grecv_at (by assumption)) | exact Or.inr (grecv_c (by assumption)) | exact Or.inr (grecv_c (SIs.cls (by assumption))) | exact Or.inr (grecv_at (BSb.at (by assumption)))) (by first | exact Or.inl (by decide) | exact Or.inr (gnewv_at (by assumption))) rfl (G_sbSet0 h) ?_
  rintro _ g' ⟨rfl, hq⟩
  exact GW.ret rfl rfl ⟨_, rfl, rfl, hq⟩
/-- toString -/
theorem G_sbStr (h : BSb g n s a cap) : GMr (d + 6) gk_J9_toString [aR n] g (fun r g' => SNew g g' r s (28 + s.length)) := by
  refine GMr.wf (fun hW => ?_)
  have hn : n < gsz g := hW.lt (by rw [h.1.1]; decide)
  have ha : a < gsz g := hW.lt (by rw [h.2.2.2.2.2.1.1]; decide)
  have inner : ∀ (d : Nat) (q : Nat), q = gsz g → GAt (gnew g 13 0 4) q 13 → GMr (d + 4) gk_J10_init_2 [aR q, aR n, aQ none] (gnew g 13 0 4) (fun r g' => r = none ∧ SNew g g' (vR (some q)) s (28 + s.length)) := by
    intro d q hq hAq
    refine GMr.wf (fun hW1 => ?_)
    have hB := h.same (gnew_same (c := 13) (L := 0) (s := 4) hn) (gnew_same ha)
    have hB' := hB
    obtain ⟨h1, h2, h3, h4, h5, h6, h7⟩ := hB
    have hc := hW1.2.2.2.2 a
    rw [h6.2.1] at hc
    have hsl := h6.2.2.1
    refine GM.of rfl rfl rfl ?_
    (repeat (refine GW.pl rfl rfl ?_))
    refine GW.oini rfl (And.right (show GAt _ _ _ by assumption)) (Nat.le_of_ble_eq_true rfl) ?_
    (repeat (refine GW.pl rfl rfl ?_))
    refine GW.c1 rfl rfl (by first | exact Or.inl rfl | exact Or.inr (grecv_at (by assumption)) | exact Or.inr (grecv_c (by assumption)) | exact Or.inr (grecv_c (SIs.cls (by assumption))) | exact Or.inr (grecv_at (BSb.at (by assumption)))) (by first | exact Or.inl (by decide) | exact Or.inr (gnewv_at (by assumption))) rfl (G_sbV hB') ?_; rintro _ _ ⟨rfl, rfl⟩
    (repeat (refine GW.pl rfl rfl ?_))
    refine GW.c1 rfl rfl (by first | exact Or.inl rfl | exact Or.inr (grecv_at (by assumption)) | exact Or.inr (grecv_c (by assumption)) | exact Or.inr (grecv_c (SIs.cls (by assumption))) | exact Or.inr (grecv_at (BSb.at (by assumption)))) (by first | exact Or.inl (by decide) | exact Or.inr (gnewv_at (by assumption))) rfl (G_sbLen hB') ?_; rintro _ _ ⟨rfl, rfl⟩
    (repeat (refine GW.pl rfl rfl ?_))
    refine GW.c1 rfl rfl (by first | exact Or.inl rfl | exact Or.inr (grecv_at (by assumption)) | exact Or.inr (grecv_c (by assumption)) | exact Or.inr (grecv_c (SIs.cls (by assumption))) | exact Or.inr (grecv_at (BSb.at (by assumption)))) (by first | exact Or.inl (by decide) | exact Or.inr (gnewv_at (by assumption))) rfl (G_sbI hB') ?_; rintro _ _ ⟨rfl, rfl⟩
    refine GW.br rfl rfl (by first | omega | decide | (constructor <;> first | omega | decide)) (fun h8 => by first | (exfalso; omega) | exact absurd h8 (by decide)) (fun h8 => ?_)
    (repeat (refine GW.pl rfl rfl ?_))
    refine GW.putb rfl rfl hAq rfl (by decide) ?_
    (repeat (refine GW.pl rfl rfl ?_))
    refine GW.wf (fun hW2 => ?_)
    have h6' : PIs (gsfi (gnew g 13 0 4) 92 q 0) a s cap := h6
    refine GW.c3 rfl rfl (by first | exact Or.inl rfl | exact Or.inr (grecv_at (by assumption)) | exact Or.inr (grecv_c (by assumption)) | exact Or.inr (grecv_c (SIs.cls (by assumption))) | exact Or.inr (grecv_at (BSb.at (by assumption)))) (by first | exact Or.inl (by decide) | exact Or.inr (gnewv_at (by assumption))) rfl (G_cpR h6' (b := 0) (e := s.length) ⟨by decide, by omega, Int.le_refl _⟩ (Or.inl h5)) ?_
    rintro r g1 hr
    rw [sub9_all, show ((s.length : Int) - 0).toNat = s.length by omega] at hr
    obtain ⟨b, rfl, hAb, hP, hK, hb1, hb2⟩ := hr.at
    have hq2 : q < gsz (gsfi (gnew g 13 0 4) 92 q 0) := by show q < gsz g + 1; omega
    have hs := hK.2.2.1 q hq2 (fun z => z)
    have hA1 : GAt g1 q 13 := ⟨hs.1.trans hAq.1, hAq.2⟩
    refine GW.putr rfl rfl hA1 rfl ?_
    (repeat (refine GW.pl rfl rfl ?_))
    have hb1' : gsz g + 1 ≤ b := hb1
    have hqb : q ≠ b := by omega
    refine GW.ret rfl rfl ⟨_, rfl, rfl, q, b, rfl, ?_, by omega, ?_, by omega, hb2, hqb, hA1.2, hA1.1, ?_, gfr_eq, hP⟩
    · refine Kp.le (((Kp.new hW).trans (((Kp.fi (S := fun k => k = q) (F := 92) (n := q) (x := 0) rfl rfl).trans hK (fun _ _ z => z.elim)).trans (Kp.fr (S := fun k => k = q) (F := 91) (n := q) (r := some b) rfl rfl) (fun _ _ z => z)) (fun k hk z => ?_))) (by omega)
      omega
    · have := hK.1; show q < gsz g1; omega
    · exact (hs.2.2.1 92).trans gfi_eq
  refine GM.of rfl rfl rfl ?_
  refine GW.new rfl rfl rfl (fun q hq hAq => ?_)
  (repeat (refine GW.pl rfl rfl ?_))
  have mid : ∀ d, GMr (d + 5) gk_J10_init [aR q, aR n] (gnew g 13 0 4) (fun r g' => r = none ∧ SNew g g' (vR (some q)) s (28 + s.length)) := by
    intro d
    refine GM.of rfl rfl rfl ?_
    (repeat (refine GW.pl rfl rfl ?_))
    refine GW.c3 rfl rfl (by first | exact Or.inl rfl | exact Or.inr (grecv_at (by assumption)) | exact Or.inr (grecv_c (by assumption)) | exact Or.inr (grecv_c (SIs.cls (by assumption))) | exact Or.inr (grecv_at (BSb.at (by assumption)))) (by first | exact Or.inl (by decide) | exact Or.inr (gnewv_at (by assumption))) rfl (inner d q hq hAq) ?_
    rintro _ g' ⟨rfl, hh⟩
    exact GW.ret rfl rfl ⟨_, rfl, rfl, hh⟩
  refine GW.c2 rfl rfl (by first | exact Or.inl rfl | exact Or.inr (grecv_at (by assumption)) | exact Or.inr (grecv_c (by assumption)) | exact Or.inr (grecv_c (SIs.cls (by assumption))) | exact Or.inr (grecv_at (BSb.at (by assumption)))) (by first | exact Or.inl (by decide) | exact Or.inr (gnewv_at (by assumption))) rfl (mid d) ?_
  rintro _ g' ⟨rfl, hh⟩
  exact GW.aret rfl rfl ⟨_, rfl, hh⟩
end Sb
