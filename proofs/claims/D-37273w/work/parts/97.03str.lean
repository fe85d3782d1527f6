set_option maxRecDepth 100000
/-! STRINGS: their bytes, length, charAt, indexOf, equals, substring, valueOf(char) -/
/-- an array of bytes that begins with s -/
def PIs (g : GH) (a : Nat) (s : List Int) (cap : Nat) : Prop := gcls g a = 101 ∧ glen g a = cap ∧ s.length ≤ cap ∧ (∀ j, j < s.length → gai g a j = s.getD j 0) ∧ ∀ x ∈ s, 0 ≤ x ∧ x < 128
def SIs (g : GH) (n : Nat) (s : List Int) (a : Nat) : Prop := gcls g n = 13 ∧ gfi g 92 n = 0 ∧ gfr g 91 n = some a ∧ PIs g a s s.length
theorem PIs.same {g g' : GH} {a cap : Nat} {s : List Int} (h : PIs g a s cap) (k : SameC g g' a) : PIs g' a s cap := ⟨k.1.trans h.1, k.2.1.trans h.2.1, h.2.2.1, fun j hj => (k.2.2.2.2.1 j).trans (h.2.2.2.1 j hj), h.2.2.2.2⟩
theorem SIs.same {g g' : GH} {n a : Nat} {s : List Int} (h : SIs g n s a) (k : SameC g g' n) (k2 : SameC g g' a) : SIs g' n s a := ⟨k.1.trans h.1, (k.2.2.1 92).trans h.2.1, (k.2.2.2.1 91).trans h.2.2.1, h.2.2.2.same k2⟩
theorem PIs.getD {g : GH} {a cap : Nat} {s : List Int} (h : PIs g a s cap) {j : Nat} (hj : j < s.length) : 0 ≤ s.getD j 0 ∧ s.getD j 0 < 128 := by
  rw [List.getD_eq_getElem?_getD, List.getElem?_eq_getElem hj]
  exact h.2.2.2.2 _ (List.getElem_mem hj)
theorem SIs.cls {g : GH} {n a : Nat} {s : List Int} (h : SIs g n s a) : gcls g n = 13 := h.1
/-- the first place of a sign, from k on; -1 -/
def sidx (c : Int) : List Int → Int → Int
  | [], _ => -1
  | x :: xs, k => if x = c then k else sidx c xs (k + 1)
section Str
variable {d : Nat} {g : GH} {n a cap : Nat} {s : List Int}
theorem G_isL1 (h : SIs g n s a) : GE (d + 1) gk_J10_isLatin1 [aR n] g (vI 1) := by
  obtain ⟨h1, h2, h3, h4⟩ := h
  refine GM.of rfl rfl rfl ?_
  (repeat (refine GW.pl rfl rfl ?_))
  refine GW.br rfl rfl (by first | omega | decide | (constructor <;> first | omega | decide)) (fun h => by first | (exfalso; omega) | exact absurd h (by decide)) (fun h => ?_)
  (repeat (first | (refine GW.pl rfl rfl ?_) | (refine GW.geti rfl rfl (by first | exact GHas.at (by assumption) rfl | exact GHas.k (by assumption) rfl rfl) (by first | assumption | rfl) (fun _ => ?_)) | (refine GW.getr rfl rfl (by first | exact GHas.at (by assumption) rfl | exact GHas.k (by assumption) rfl rfl) (by first | assumption | rfl) ?_)))
  refine GW.br rfl rfl (by first | omega | decide | (constructor <;> first | omega | decide)) (fun h => by first | (exfalso; omega) | exact absurd h (by decide)) (fun h => ?_)
  (repeat (refine GW.pl rfl rfl ?_))
  exact GW.ir2 rfl rfl (by decide) ⟨_, rfl, rfl, rfl⟩
theorem G_coder (h : SIs g n s a) : GE (d + 1) gk_J10_coder [aR n] g (vI 0) := by
  obtain ⟨h1, h2, h3, h4⟩ := h
  refine GM.of rfl rfl rfl ?_
  (repeat (refine GW.pl rfl rfl ?_))
  refine GW.br rfl rfl (by first | omega | decide | (constructor <;> first | omega | decide)) (fun h => by first | (exfalso; omega) | exact absurd h (by decide)) (fun h => ?_)
  (repeat (first | (refine GW.pl rfl rfl ?_) | (refine GW.geti rfl rfl (by first | exact GHas.at (by assumption) rfl | exact GHas.k (by assumption) rfl rfl) (by first | assumption | rfl) (fun _ => ?_)) | (refine GW.getr rfl rfl (by first | exact GHas.at (by assumption) rfl | exact GHas.k (by assumption) rfl rfl) (by first | assumption | rfl) ?_)))
  exact GW.ir4 rfl rfl (by decide) ⟨_, rfl, rfl, rfl⟩
theorem G_slen (h : SIs g n s a) : GE (d + 2) gk_J10_length [aR n] g (vI s.length) := by
  have hh := h
  obtain ⟨h1, h2, h3, h4, h5, h6⟩ := h
  refine GM.of rfl rfl rfl ?_
  (repeat (first | (refine GW.pl rfl rfl ?_) | (refine GW.geti rfl rfl (by first | exact GHas.at (by assumption) rfl | exact GHas.k (by assumption) rfl rfl) (by first | assumption | rfl) (fun _ => ?_)) | (refine GW.getr rfl rfl (by first | exact GHas.at (by assumption) rfl | exact GHas.k (by assumption) rfl rfl) (by first | assumption | rfl) ?_)))
  refine GW.alen rfl h4 rfl h5 (fun hl => ?_)
  (repeat (refine GW.pl rfl rfl ?_))
  refine GW.c1 rfl rfl (by first | exact Or.inl rfl | exact Or.inr (grecv_at (by assumption)) | exact Or.inr (grecv_c (by assumption)) | exact Or.inr (grecv_c (SIs.cls (by assumption))) | exact Or.inr (grecv_at (BSb.at (by assumption)))) (by first | exact Or.inl (by decide) | exact Or.inr (gnewv_at (by assumption))) rfl (G_coder hh) ?_; rintro _ _ ⟨rfl, rfl⟩
  refine GW.bin rfl (g_shr0 ⟨by omega, by omega⟩) ?_
  exact GW.ir1 rfl rfl ⟨by omega, by omega⟩ ⟨_, rfl, rfl, rfl⟩
theorem G_pchk {i m : Int} {r : Option Nat} (hi : 0 ≤ i ∧ i < m ∧ m < 2147483648) : GE (d + 1) gk_J22_checkIndex [aI i, aI m, aQ r] g (vI i) := by
  refine GM.of rfl rfl rfl ?_
  (repeat (refine GW.pl rfl rfl ?_))
  refine GW.br rfl rfl (by first | omega | decide | (constructor <;> first | omega | decide)) (fun h => by first | (exfalso; omega) | exact absurd h (by decide)) (fun h => ?_)
  (repeat (refine GW.pl rfl rfl ?_))
  refine GW.br rfl rfl (by first | omega | decide | (constructor <;> first | omega | decide)) (fun h => ?_) (fun h => by first | (exfalso; omega) | exact absurd h (by decide))
  (repeat (refine GW.pl rfl rfl ?_))
  exact GW.ir1 rfl rfl ⟨by omega, by omega⟩ ⟨_, rfl, rfl, rfl⟩
theorem G_schk {i m : Int} (hi : 0 ≤ i ∧ i < m ∧ m < 2147483648) : GE (d + 2) gk_J10_checkIndex [aI i, aI m] g none := by
  refine GM.of rfl rfl rfl ?_
  (repeat (refine GW.pl rfl rfl ?_))
  refine GW.c3 rfl rfl (by first | exact Or.inl rfl | exact Or.inr (grecv_at (by assumption)) | exact Or.inr (grecv_c (by assumption)) | exact Or.inr (grecv_c (SIs.cls (by assumption))) | exact Or.inr (grecv_at (BSb.at (by assumption)))) (by first | exact Or.inl (by decide) | exact Or.inr (gnewv_at (by assumption))) rfl (G_pchk hi) ?_; rintro _ _ ⟨rfl, rfl⟩
  (repeat (refine GW.pl rfl rfl ?_))
  exact GW.ret rfl rfl ⟨_, rfl, rfl, rfl⟩
theorem G_ochk {i m : Int} (hi : 0 ≤ i ∧ i < m ∧ m < 2147483648) : GE (d + 2) gk_J26_checkIndex [aI i, aI m] g (vI i) := by
  refine GM.of rfl rfl rfl ?_
  (repeat (refine GW.pl rfl rfl ?_))
  refine GW.c3 rfl rfl (by first | exact Or.inl rfl | exact Or.inr (grecv_at (by assumption)) | exact Or.inr (grecv_c (by assumption)) | exact Or.inr (grecv_c (SIs.cls (by assumption))) | exact Or.inr (grecv_at (BSb.at (by assumption)))) (by first | exact Or.inl (by decide) | exact Or.inr (gnewv_at (by assumption))) rfl (G_pchk hi) ?_; rintro _ _ ⟨rfl, rfl⟩
  exact GW.ir1 rfl rfl ⟨by omega, by omega⟩ ⟨_, rfl, rfl, rfl⟩
theorem G_lchar (h : PIs g a s cap) {i : Int} (hi : 0 ≤ i ∧ i < s.length) : GE (d + 3) gk_J21_charAt [aR a, aI i] g (vI (s.getD i.toNat 0)) := by
  have hh := h
  obtain ⟨h4, h5, h6, h7, h8⟩ := h
  have hc := hh.getD (j := i.toNat) (by omega)
  refine GM.of rfl rfl rfl ?_
  (repeat (refine GW.pl rfl rfl ?_))
  refine GW.alen rfl h4 rfl h5 (fun hl => ?_)
  refine GW.c2 rfl rfl (by first | exact Or.inl rfl | exact Or.inr (grecv_at (by assumption)) | exact Or.inr (grecv_c (by assumption)) | exact Or.inr (grecv_c (SIs.cls (by assumption))) | exact Or.inr (grecv_at (BSb.at (by assumption)))) (by first | exact Or.inl (by decide) | exact Or.inr (gnewv_at (by assumption))) rfl (G_schk ⟨hi.1, by omega, by omega⟩) ?_; rintro _ _ ⟨rfl, rfl⟩
  (repeat (refine GW.pl rfl rfl ?_))
  refine GW.bald rfl h4 h5 (by omega) (h7 _ (by omega)) (fun _ => ?_)
  (repeat (refine GW.pl rfl rfl ?_))
  refine GW.bin rfl (g_and255 ⟨hc.1, by omega⟩) ?_
  refine GW.i2c rfl (by omega) ?_
  exact GW.ir3 rfl rfl (by omega) ⟨_, rfl, rfl, rfl⟩
theorem G_schar (h : SIs g n s a) {i : Int} (hi : 0 ≤ i ∧ i < s.length) : GE (d + 4) gk_J10_charAt [aR n, aI i] g (vI (s.getD i.toNat 0)) := by
  have hh := h
  obtain ⟨h1, h2, h3, h4⟩ := h
  have hc := h4.getD (j := i.toNat) (by omega)
  refine GM.of rfl rfl rfl ?_
  (repeat (refine GW.pl rfl rfl ?_))
  refine GW.c1 rfl rfl (by first | exact Or.inl rfl | exact Or.inr (grecv_at (by assumption)) | exact Or.inr (grecv_c (by assumption)) | exact Or.inr (grecv_c (SIs.cls (by assumption))) | exact Or.inr (grecv_at (BSb.at (by assumption)))) (by first | exact Or.inl (by decide) | exact Or.inr (gnewv_at (by assumption))) rfl (G_isL1 hh) ?_; rintro _ _ ⟨rfl, rfl⟩
  refine GW.br rfl rfl (by first | omega | decide | (constructor <;> first | omega | decide)) (fun h => by first | (exfalso; omega) | exact absurd h (by decide)) (fun h => ?_)
  (repeat (first | (refine GW.pl rfl rfl ?_) | (refine GW.geti rfl rfl (by first | exact GHas.at (by assumption) rfl | exact GHas.k (by assumption) rfl rfl) (by first | assumption | rfl) (fun _ => ?_)) | (refine GW.getr rfl rfl (by first | exact GHas.at (by assumption) rfl | exact GHas.k (by assumption) rfl rfl) (by first | assumption | rfl) ?_)))
  refine GW.c2 rfl rfl (by first | exact Or.inl rfl | exact Or.inr (grecv_at (by assumption)) | exact Or.inr (grecv_c (by assumption)) | exact Or.inr (grecv_c (SIs.cls (by assumption))) | exact Or.inr (grecv_at (BSb.at (by assumption)))) (by first | exact Or.inl (by decide) | exact Or.inr (gnewv_at (by assumption))) rfl (G_lchar h4 hi) ?_; rintro _ _ ⟨rfl, rfl⟩
  exact GW.ir3 rfl rfl (by omega) ⟨_, rfl, rfl, rfl⟩
theorem G_canE2 {c : Int} (hc : 0 ≤ c ∧ c < 128) : GE (d + 1) gk_J21_canEncode_2 [aI c] g (vI 1) := by
  refine GM.of rfl rfl rfl ?_
  (repeat (refine GW.pl rfl rfl ?_))
  refine GW.br rfl rfl (by first | omega | decide | (constructor <;> first | omega | decide)) (fun h => by first | (exfalso; omega) | exact absurd h (by decide)) (fun h => ?_)
  (repeat (refine GW.pl rfl rfl ?_))
  refine GW.br rfl rfl (by first | omega | decide | (constructor <;> first | omega | decide)) (fun h => by first | (exfalso; omega) | exact absurd h (by decide)) (fun h => ?_)
  (repeat (refine GW.pl rfl rfl ?_))
  exact GW.ir2 rfl rfl (by decide) ⟨_, rfl, rfl, rfl⟩
theorem G_canE {c : Int} (hc : 0 ≤ c ∧ c < 128) : GE (d + 1) gk_J21_canEncode [aI c] g (vI 1) := by
  refine GM.of rfl rfl rfl ?_
  (repeat (refine GW.pl rfl rfl ?_))
  refine GW.br rfl rfl (by first | omega | decide | (constructor <;> first | omega | decide)) (fun h => by first | (exfalso; omega) | exact absurd h (by decide)) (fun h => ?_)
  (repeat (refine GW.pl rfl rfl ?_))
  exact GW.ir2 rfl rfl (by decide) ⟨_, rfl, rfl, rfl⟩
theorem sidx_R (c : Int) : ∀ (s : List Int) (k : Int), -1 ≤ k → -1 ≤ sidx c s k ∧ (sidx c s k = -1 ∨ (k ≤ sidx c s k ∧ sidx c s k < k + s.length)) := by
  intro s
  induction s with
  | nil => intro k hk; exact ⟨by simp [sidx], Or.inl rfl⟩
  | cons x xs ih =>
    intro k hk
    unfold sidx
    have h := ih (k + 1) (by omega)
    simp only [List.length_cons]
    split
    · exact ⟨hk, Or.inr ⟨Int.le_refl _, by omega⟩⟩
    · exact ⟨h.1, by omega⟩
theorem G_idxC (h : PIs g a s cap) {c : Int} (hc : 0 ≤ c ∧ c < 128) (hcap : cap < 65536) : GE (d + 1) gk_J21_indexOfChar [aR a, aI c, aI 0, aI s.length] g (vI (sidx c s 0)) := by
  obtain ⟨h4, h5, h6, h7, h8⟩ := h
  refine GM.of rfl rfl rfl ?_
  (repeat (refine GW.pl rfl rfl ?_))
  refine GW.i2b rfl (by omega) ?_
  (iterate 3 (refine GW.pl rfl rfl ?_))
  have loop : ∀ (m k : Nat), m + k = s.length → GW d gm_J21_indexOfChar 5 [some (aR a), some (aI c), some (aI 0), some (aI s.length), some (aI c), some (aI k)] [] g (fun r g' => ∃ v, r = .inl v ∧ vI (sidx c (s.drop k) k) = v ∧ g = g') := by
    intro m
    induction m with
    | zero =>
      intro k hk
      (repeat (refine GW.pl rfl rfl ?_))
      refine GW.br rfl rfl (by first | omega | decide | (constructor <;> first | omega | decide)) (fun h => ?_) (fun h => by first | (exfalso; omega) | exact absurd h (by decide))
      (repeat (refine GW.pl rfl rfl ?_))
      rw [List.drop_eq_nil_of_le (by omega)]
      exact GW.ir1 rfl rfl (by decide) ⟨_, rfl, rfl, rfl⟩
    | succ m ih =>
      intro k hk
      have hk' : k < s.length := by omega
      have e : s.drop k = s.getD k 0 :: s.drop (k + 1) := by rw [List.drop_eq_getElem_cons hk', List.getD_eq_getElem?_getD, List.getElem?_eq_getElem hk']; rfl
      (repeat (refine GW.pl rfl rfl ?_))
      refine GW.br rfl rfl (by first | omega | decide | (constructor <;> first | omega | decide)) (fun h => by first | (exfalso; omega) | exact absurd h (by decide)) (fun h => ?_)
      (repeat (refine GW.pl rfl rfl ?_))
      refine GW.bald rfl h4 h5 (by omega) (h7 _ (by omega)) (fun hv => ?_)
      (repeat (refine GW.pl rfl rfl ?_))
      rw [show ((k : Int).toNat) = k by omega] at hv ⊢
      refine GW.br rfl rfl (by first | omega | decide | (constructor <;> first | omega | decide)) (fun h => ?_) (fun h => ?_)
      · (iterate 2 (refine GW.pl rfl rfl ?_))
        rw [e, sidx, if_neg h]
        exact ih (k + 1) (by omega)
      · (repeat (refine GW.pl rfl rfl ?_))
        rw [e, sidx, if_pos h]
        exact GW.ir1 rfl rfl ⟨by omega, by omega⟩ ⟨_, rfl, rfl, rfl⟩
  exact loop s.length 0 rfl
theorem G_lidx (h : PIs g a s s.length) (hl : s.length < 65536) {c : Int} (hc : 0 ≤ c ∧ c < 128) : GE (d + 2) gk_J21_indexOf [aR a, aI c, aI 0, aI s.length] g (vI (sidx c s 0)) := by
  have hh := h
  obtain ⟨h4, h5, h6, h7, h8⟩ := h
  refine GM.of rfl rfl rfl ?_
  (repeat (refine GW.pl rfl rfl ?_))
  refine GW.c1 rfl rfl (by first | exact Or.inl rfl | exact Or.inr (grecv_at (by assumption)) | exact Or.inr (grecv_c (by assumption)) | exact Or.inr (grecv_c (SIs.cls (by assumption))) | exact Or.inr (grecv_at (BSb.at (by assumption)))) (by first | exact Or.inl (by decide) | exact Or.inr (gnewv_at (by assumption))) rfl (G_canE2 hc) ?_; rintro _ _ ⟨rfl, rfl⟩
  refine GW.br rfl rfl (by first | omega | decide | (constructor <;> first | omega | decide)) (fun h => ?_) (fun h => by first | (exfalso; omega) | exact absurd h (by decide))
  (repeat (refine GW.pl rfl rfl ?_))
  refine GW.max (v := 0) rfl (Nat.le_of_ble_eq_true rfl) (by decide) (by decide) ?_
  (repeat (refine GW.pl rfl rfl ?_))
  refine GW.alen rfl h4 rfl h5 (fun hl => ?_)
  refine GW.min (v := (s.length : Int)) rfl (Nat.le_of_ble_eq_true rfl) (by constructor <;> constructor <;> omega) (by split <;> omega) ?_
  (repeat (refine GW.pl rfl rfl ?_))
  refine GW.br rfl rfl (by first | omega | decide | (constructor <;> first | omega | decide)) (fun h => ?_) (fun h => ?_)
  · (repeat (refine GW.pl rfl rfl ?_))
    refine GW.c4 rfl rfl (by first | exact Or.inl rfl | exact Or.inr (grecv_at (by assumption)) | exact Or.inr (grecv_c (by assumption)) | exact Or.inr (grecv_c (SIs.cls (by assumption))) | exact Or.inr (grecv_at (BSb.at (by assumption)))) (by first | exact Or.inl (by decide) | exact Or.inr (gnewv_at (by assumption))) rfl (G_idxC hh hc hl) ?_; rintro _ _ ⟨rfl, rfl⟩
    have := sidx_R c s 0 (by decide)
    exact GW.ir1 rfl rfl ⟨by omega, by omega⟩ ⟨_, rfl, rfl, rfl⟩
  · (repeat (refine GW.pl rfl rfl ?_))
    have hs : s = [] := List.length_eq_zero_iff.mp (by omega)
    subst hs
    exact GW.ir1 rfl rfl (by decide) ⟨_, rfl, rfl, rfl⟩
theorem G_sidx2 (h : SIs g n s a) (hl : s.length < 65536) {c : Int} (hc : 0 ≤ c ∧ c < 128) : GE (d + 3) gk_J10_indexOf_2 [aR n, aI c, aI 0] g (vI (sidx c s 0)) := by
  have hh := h
  obtain ⟨h1, h2, h3, h4⟩ := h
  refine GM.of rfl rfl rfl ?_
  (repeat (refine GW.pl rfl rfl ?_))
  refine GW.c1 rfl rfl (by first | exact Or.inl rfl | exact Or.inr (grecv_at (by assumption)) | exact Or.inr (grecv_c (by assumption)) | exact Or.inr (grecv_c (SIs.cls (by assumption))) | exact Or.inr (grecv_at (BSb.at (by assumption)))) (by first | exact Or.inl (by decide) | exact Or.inr (gnewv_at (by assumption))) rfl (G_isL1 hh) ?_; rintro _ _ ⟨rfl, rfl⟩
  refine GW.br rfl rfl (by first | omega | decide | (constructor <;> first | omega | decide)) (fun h => by first | (exfalso; omega) | exact absurd h (by decide)) (fun h => ?_)
  (repeat (first | (refine GW.pl rfl rfl ?_) | (refine GW.geti rfl rfl (by first | exact GHas.at (by assumption) rfl | exact GHas.k (by assumption) rfl rfl) (by first | assumption | rfl) (fun _ => ?_)) | (refine GW.getr rfl rfl (by first | exact GHas.at (by assumption) rfl | exact GHas.k (by assumption) rfl rfl) (by first | assumption | rfl) ?_)))
  refine GW.c1 rfl rfl (by first | exact Or.inl rfl | exact Or.inr (grecv_at (by assumption)) | exact Or.inr (grecv_c (by assumption)) | exact Or.inr (grecv_c (SIs.cls (by assumption))) | exact Or.inr (grecv_at (BSb.at (by assumption)))) (by first | exact Or.inl (by decide) | exact Or.inr (gnewv_at (by assumption))) rfl (G_slen hh) ?_; rintro _ _ ⟨rfl, rfl⟩
  refine GW.c4 rfl rfl (by first | exact Or.inl rfl | exact Or.inr (grecv_at (by assumption)) | exact Or.inr (grecv_c (by assumption)) | exact Or.inr (grecv_c (SIs.cls (by assumption))) | exact Or.inr (grecv_at (BSb.at (by assumption)))) (by first | exact Or.inl (by decide) | exact Or.inr (gnewv_at (by assumption))) rfl (G_lidx h4 hl hc) ?_; rintro _ _ ⟨rfl, rfl⟩
  (repeat (refine GW.pl rfl rfl ?_))
  have := sidx_R c s 0 (by decide)
  exact GW.ir1 rfl rfl ⟨by omega, by omega⟩ ⟨_, rfl, rfl, rfl⟩
theorem G_sidx (h : SIs g n s a) {c : Int} (hc : 0 ≤ c ∧ c < 128) : GE (d + 4) gk_J10_indexOf [aR n, aI c] g (vI (sidx c s 0)) := by
  refine GM.wf (fun hW => ?_)
  have hl : s.length < 65536 := by have := hW.2.2.2.2 a; rw [h.2.2.2.2.1] at this; exact this
  have h1 := h.1
  refine GM.of rfl rfl rfl ?_
  (repeat (refine GW.pl rfl rfl ?_))
  refine GW.c3 rfl rfl (by first | exact Or.inl rfl | exact Or.inr (grecv_at (by assumption)) | exact Or.inr (grecv_c (by assumption)) | exact Or.inr (grecv_c (SIs.cls (by assumption))) | exact Or.inr (grecv_at (BSb.at (by assumption)))) (by first | exact Or.inl (by decide) | exact Or.inr (gnewv_at (by assumption))) rfl (G_sidx2 h hl hc) ?_; rintro _ _ ⟨rfl, rfl⟩
  have := sidx_R c s 0 (by decide)
  exact GW.ir1 rfl rfl ⟨by omega, by omega⟩ ⟨_, rfl, rfl, rfl⟩
end Str
