-- C
set_option maxRecDepth 100000
/-! LINEORDERS: all that an order can change (Ahead), made -/
/-- rows of files in an array of arrays -/
def FilA (S : BS) (K : Nat → Nat) (fi : Nat → List (List Int)) (ws : List (Option Nat)) (j : Nat) : Prop := ws.length = 4 ∧ ∀ k, k < j → ∃ w xs, ws.getD k none = some w ∧ KoM K w ∧ Ob S w (oRa 105 xs) ∧ StrsIs S xs (fi k)
/-- what was, as an object; n: held, out's length, files, next id, replaced -/
def AhIs (S : BS) (K : Nat → Nat) (la : Int → Nat) (m pl : Nat) (A : St) : Prop := KoM K m ∧ Ob S m (oOwn 3) ∧ (∃ dm, Fe S 23 m (some dm) ∧ DeedIs S K la dm (pl, A.1, A.2.1, A.2.2.2.2.2.1)) ∧ (∃ b xs, KoM K b ∧ Fe S 24 m (some b) ∧ Ob S b (oRa 105 xs) ∧ StrsIs S xs A.2.2.1) ∧ (∃ w ws, KoM K w ∧ Fe S 25 m (some w) ∧ Ob S w (oRa 107 ws) ∧ FilA S K A.2.2.2.2.1 ws 4) ∧ Fi S 26 m A.2.2.2.1.length ∧ Fi S 27 m A.2.2.2.2.2.2.1 ∧ Fi S 28 m (b2i A.2.2.2.2.2.2.2) ∧ Fe S 29 m (some (K 1))
section AH
variable {d n m q i a b e y cap c k j pl B : Nat} {S S' S0 S1 S2 : BS} {K : Nat → Nat} {la la' : Int → Nat} {A : St} {V : Nat → Prop} {v nn b1 x1 : Int} {r : Option Nat} {dq : SDeed} {t : List SLine} {xs ws : List (Option Nat)} {fi : Nat → List (List Int)}
theorem FilA.xf (h : FilA S K fi ws j) (hX : XF K V S S') : FilA S' K fi ws j := ⟨h.1, fun k hk => by
  obtain ⟨w, xs, h1, h2, h3, h4⟩ := h.2 k hk
  exact ⟨w, xs, h1, h2, (hX.ob h3 h2 (oNe rfl) rfl).1, h4.xf hX⟩⟩
theorem AhIs.xf (h : AhIs S K la m pl A) (hX : XF K V S S') : AhIs S' K la m pl A := by
  obtain ⟨k, h1, ⟨dm, h2, h3⟩, ⟨b, xs, kb, h4, h5, h6⟩, ⟨w, ws, kw, h7, h8, h9⟩, h10, h11, h12, h13⟩ := h
  exact ⟨k, (hX.ob h1 k (oNe rfl) rfl).1, ⟨dm, hX.fe h1 k (oNe rfl) rfl h2 (by decide), h3.xf hX⟩, ⟨b, xs, kb, hX.fe h1 k (oNe rfl) rfl h4 (by decide), (hX.ob h5 kb (oNe rfl) rfl).1, h6.xf hX⟩, ⟨w, ws, kw, hX.fe h1 k (oNe rfl) rfl h7 (by decide), (hX.ob h8 kw (oNe rfl) rfl).1, h9.xf hX⟩, hX.fi h1 k (oNe rfl) rfl h10 (by decide), hX.fi h1 k (oNe rfl) rfl h11 (by decide), hX.fi h1 k (oNe rfl) rfl h12 (by decide), hX.fe h1 k (oNe rfl) rfl h13 (by decide)⟩
theorem FilA.pu (h : FilA S K fi ws j) {F : Nat} (hP : Pu S S' F (K 1)) : FilA S' K fi ws j := ⟨h.1, fun k hk => by
  obtain ⟨w, xs, h1, h2, h3, h4⟩ := h.2 k hk
  exact ⟨w, xs, h1, h2, h3.pu hP trivial, h4.pu hP trivial⟩⟩
theorem AhIs.pu (h : AhIs S K la m pl A) {F : Nat} (hP : Pu S S' F (K 1)) : AhIs S' K la m pl A := by
  obtain ⟨k, h1, ⟨dm, h2, h3⟩, ⟨b, xs, kb, h4, h5, h6⟩, ⟨w, ws, kw, h7, h8, h9⟩, h10, h11, h12, h13⟩ := h
  have s : m ≠ K 1 := k 1 (by decide)
  exact ⟨k, h1.pu hP trivial, ⟨dm, h2.pu hP (Or.inr s), h3.pu hP⟩, ⟨b, xs, kb, h4.pu hP (Or.inr s), h5.pu hP trivial, h6.pu hP trivial⟩, ⟨w, ws, kw, h7.pu hP (Or.inr s), h8.pu hP trivial, h9.pu hP⟩, h10.pu hP (Or.inr s), h11.pu hP (Or.inr s), h12.pu hP (Or.inr s), h13.pu hP (Or.inr s)⟩
theorem AhIs.xg (h : AhIs S K la m pl A) (hX : XG K V S S') : AhIs S' K la m pl A := by
  obtain ⟨Sx, h1, h2⟩ := hX
  exact (h.xf h1).pu h2
theorem AhIs.lae (h : AhIs S K la m pl A) {n : Int} (hE : LaE la la' n) (h1 : ∀ x ∈ idsOfL A.1, x < n) (h2 : ∀ j x, j < 5 → A.2.2.2.2.2.1 j = some x → x < n) : AhIs S K la' m pl A := by
  obtain ⟨k, g1, ⟨dm, g2, g3⟩, g4⟩ := h
  exact ⟨k, g1, ⟨dm, g2, g3.lae hE h1 h2⟩, g4⟩
theorem K_file (hL : LO S K la A B) (hj : j < 4) : ∃ cap, ListI S (K (20 + j)) (A.2.2.2.2.1 j) cap := by
  have h := hL.1.list (i := 20 + j) (by unfold lIx; simp; omega)
  have e : lsA A.2.2 (20 + j) = A.2.2.2.2.1 j := by
    unfold lsA
    rw [if_neg (by omega), if_neg (by omega), show 20 + j - 20 = j by omega]
  rw [e] at h
  exact h
theorem K_files (hL : LO S K la A B) : ∃ cap, Ob S (K 9) (oAl [some (K 20), some (K 21), some (K 22), some (K 23)] cap) := hL.1.1.2.2.2.2
theorem K_get (hj : j < 4) : [some (K 20), some (K 21), some (K 22), some (K 23)].getD j none = some (K (20 + j)) := by
  have : j = 0 ∨ j = 1 ∨ j = 2 ∨ j = 3 := by omega
  rcases this with rfl | rfl | rfl | rfl <;> rfl
theorem L_aheadNew (hL : LO S K la A B) (hm : Ob S m (oOwn 3)) (hmk : 1000 ≤ m) (hko : KoM K m) (hw : WF A) (hB : B + 1000 ≤ 20000000) (hv : v = (pl : Int)) (hpl : pl < 2000000) : BMr (d + 9) gk_X9_init [aR m, aR (K 1), aI v] S (fun r S' => r = none ∧ Fr1 S S' m 460 ∧ AhIs S' K la m pl A) := by
  subst hv
  have h40 : A.1.length ≤ 40 := hw.2.1
  have h40h := hw.2.2.2.2.2.2.1.1
  have h40o := hw.2.2.2.2.2.2.2.1.1
  have h40f := fun k => (hw.2.2.2.2.2.2.2.2 k).1
  have LW : LoW K S (fun k => k = m) := LoW.one hko hm (ownNe rfl) rfl
  have hmS := hm
  have hA := Fr.rf (S := S) (W := fun k => k = m)
  refine BM.of rfl rfl rfl ?_
  (repeat (refine BW.pl rfl rfl ?_))
  first | (refine CW.putr rfl rfl (by assumption) rfl (by decide) (fun S1 hP1 h29 => ?_)) | (refine CW.puti rfl (by assumption) rfl (by decide) (by first | exact Or.inl ⟨rfl, by first | omega | decide | (constructor <;> first | omega | decide)⟩ | exact Or.inr (Or.inl ⟨rfl, by first | omega | decide | (constructor <;> first | omega | decide)⟩) | exact Or.inr (Or.inr (Or.inl ⟨rfl, by first | omega | decide | (constructor <;> first | omega | decide)⟩)) | exact Or.inr (Or.inr (Or.inr ⟨rfl, by first | omega | decide | (constructor <;> first | omega | decide)⟩))) (fun S1 hP1 h29 => ?_))
  replace hm := hm.pu hP1 trivial
  replace hA := hA.f1 hP1.fr (fun _ => rfl)
  (repeat (refine BW.pl rfl rfl ?_))
  refine BW.oini rfl hmk (Nat.le_of_ble_eq_true rfl) ?_
  have hL1 := hL.fr hA LW (by omega)
  have hx1 := hL1.1.obx
  have e7 := hL1.1.e7
  obtain ⟨cap7, xs7, hl7, hs7, hc7⟩ := hL1.1.list (i := 7) (by decide)
  have hs7 : StrsIs S1 xs7 A.2.2.1 := hs7
  (repeat (first | (refine BW.pl rfl rfl ?_) | (refine CW.geti rfl rfl (by assumption) rfl rfl (by assumption) (fun _ => ?_)) | (refine CW.getr rfl rfl (by assumption) rfl rfl (by assumption) ?_)))
  refine CW.c1 rfl rfl (by first | exact Or.inl rfl | exact Or.inr (tagO (by assumption) (by rfl) (by rfl))) (by first | exact Or.inl (by decide) | exact Or.inr ⟨_, rfl, by assumption⟩) rfl (L_rowsOf (d := d + 4) hl7 hs7 (by rw [hs7.1]; omega)) ?_
  rintro r S2 ⟨b, rfl, hb0, hbk, hb, hF2⟩
  have hxl7 := hs7.1
  have hbz : S.1 b = oNil := hA.nil hb0
  have hbo := hL1.1.ko hb0
  have hmb : m ≠ b := fun z => hmS.old (oNe rfl) (by rw [z]; exact hbz)
  have hs72 := hs7.fr hF2 NoS.no
  replace h29 := h29.fr hF2 ⟨⟨hm.old (oNe rfl), Nat.le_of_ble_eq_true rfl⟩, Sep.no⟩
  replace hm := hm.fr hF2 ⟨oNe rfl, Sep.no⟩
  replace hA := hA.f0 hF2
  first | (refine CW.putr rfl rfl (by assumption) rfl (by decide) (fun S3 hP3 h24 => ?_)) | (refine CW.puti rfl (by assumption) rfl (by decide) (by first | exact Or.inl ⟨rfl, by first | omega | decide | (constructor <;> first | omega | decide)⟩ | exact Or.inr (Or.inl ⟨rfl, by first | omega | decide | (constructor <;> first | omega | decide)⟩) | exact Or.inr (Or.inr (Or.inl ⟨rfl, by first | omega | decide | (constructor <;> first | omega | decide)⟩)) | exact Or.inr (Or.inr (Or.inr ⟨rfl, by first | omega | decide | (constructor <;> first | omega | decide)⟩))) (fun S3 hP3 h24 => ?_))
  replace h29 := h29.pu hP3 (Or.inl (Nat.ne_of_beq_eq_false rfl))
  replace hs72 := hs72.pu hP3 trivial
  replace hm := hm.pu hP3 trivial
  replace hb := hb.pu hP3 trivial
  replace hA := hA.f1 hP3.fr (fun _ => rfl)
  (repeat (refine BW.pl rfl rfl ?_))
  refine CW.arrR rfl rfl rfl ⟨by omega, by omega⟩ (fun w S4 hNw => ?_)
  have hwz : S.1 w = oNil := hA.nil hNw.nil
  have hwo : KoM K w := (hL.fr hA LW (by omega)).1.ko hNw.nil
  have hmw : m ≠ w := fun z => hmS.old (oNe rfl) (by rw [z]; exact hwz)
  have hbw : b ≠ w := hb.neN hNw.nil (oNe rfl)
  replace h29 := h29.fr hNw.fr ⟨⟨hm.old (oNe rfl), Nat.le_of_ble_eq_true rfl⟩, Sep.no⟩
  replace hs72 := hs72.fr hNw.fr NoS.no
  replace h24 := h24.fr hNw.fr ⟨⟨hm.old (oNe rfl), Nat.le_of_ble_eq_true rfl⟩, Sep.no⟩
  replace hm := hm.fr hNw.fr ⟨oNe rfl, Sep.no⟩
  replace hb := hb.fr hNw.fr ⟨oNe rfl, Sep.no⟩
  replace hA := hA.f0 hNw.fr
  have hw4 : Ob S4 w (oRa 107 (List.replicate 4 none)) := hNw.ob
  first | (refine CW.putr rfl rfl (by assumption) rfl (by decide) (fun S5 hP5 h25 => ?_)) | (refine CW.puti rfl (by assumption) rfl (by decide) (by first | exact Or.inl ⟨rfl, by first | omega | decide | (constructor <;> first | omega | decide)⟩ | exact Or.inr (Or.inl ⟨rfl, by first | omega | decide | (constructor <;> first | omega | decide)⟩) | exact Or.inr (Or.inr (Or.inl ⟨rfl, by first | omega | decide | (constructor <;> first | omega | decide)⟩)) | exact Or.inr (Or.inr (Or.inr ⟨rfl, by first | omega | decide | (constructor <;> first | omega | decide)⟩))) (fun S5 hP5 h25 => ?_))
  replace h29 := h29.pu hP5 (Or.inl (Nat.ne_of_beq_eq_false rfl))
  replace hs72 := hs72.pu hP5 trivial
  replace h24 := h24.pu hP5 (Or.inl (Nat.ne_of_beq_eq_false rfl))
  replace hm := hm.pu hP5 trivial
  replace hb := hb.pu hP5 trivial
  replace hw4 := hw4.pu hP5 trivial
  replace hA := hA.f1 hP5.fr (fun _ => rfl)
  have hL5 := hL.fr hA LW (by omega)
  have hx5 := hL5.1.obx
  have e8 := hL5.1.e8
  obtain ⟨cap8, xs8, hl8, hs8, hc8⟩ := hL5.1.list (i := 8) (by decide)
  have hs8l : xs8.length = A.2.2.2.1.length := hs8.1
  (repeat (first | (refine BW.pl rfl rfl ?_) | (refine CW.geti rfl rfl (by assumption) rfl rfl (by assumption) (fun _ => ?_)) | (refine CW.getr rfl rfl (by assumption) rfl rfl (by assumption) ?_)))
  refine CW.e1 rfl rfl (by first | exact Or.inl rfl | exact Or.inr (tagO (by assumption) (by rfl) (by rfl))) (by first | exact Or.inl (by decide) | exact Or.inr ⟨_, rfl, by assumption⟩) rfl (B_alSize hl8) ?_
  rw [hs8l]
  first | (refine CW.putr rfl rfl (by assumption) rfl (by decide) (fun S6 hP6 h26 => ?_)) | (refine CW.puti rfl (by assumption) rfl (by decide) (by first | exact Or.inl ⟨rfl, by first | omega | decide | (constructor <;> first | omega | decide)⟩ | exact Or.inr (Or.inl ⟨rfl, by first | omega | decide | (constructor <;> first | omega | decide)⟩) | exact Or.inr (Or.inr (Or.inl ⟨rfl, by first | omega | decide | (constructor <;> first | omega | decide)⟩)) | exact Or.inr (Or.inr (Or.inr ⟨rfl, by first | omega | decide | (constructor <;> first | omega | decide)⟩))) (fun S6 hP6 h26 => ?_))
  replace h29 := h29.pu hP6 (Or.inl (Nat.ne_of_beq_eq_false rfl))
  replace hs72 := hs72.pu hP6 trivial
  replace h24 := h24.pu hP6 (Or.inl (Nat.ne_of_beq_eq_false rfl))
  replace h25 := h25.pu hP6 (Or.inl (Nat.ne_of_beq_eq_false rfl))
  replace hm := hm.pu hP6 trivial
  replace hb := hb.pu hP6 trivial
  replace hw4 := hw4.pu hP6 trivial
  replace hA := hA.f1 hP6.fr (fun _ => rfl)
  have hL6 := hL.fr hA LW (by omega)
  have hx6 := hL6.1.obx
  have f4 := hL6.1.f4
  (repeat (first | (refine BW.pl rfl rfl ?_) | (refine CW.geti rfl rfl (by assumption) rfl rfl (by assumption) (fun _ => ?_)) | (refine CW.getr rfl rfl (by assumption) rfl rfl (by assumption) ?_)))
  first | (refine CW.putr rfl rfl (by assumption) rfl (by decide) (fun S7 hP7 h27 => ?_)) | (refine CW.puti rfl (by assumption) rfl (by decide) (by first | exact Or.inl ⟨rfl, by first | omega | decide | (constructor <;> first | omega | decide)⟩ | exact Or.inr (Or.inl ⟨rfl, by first | omega | decide | (constructor <;> first | omega | decide)⟩) | exact Or.inr (Or.inr (Or.inl ⟨rfl, by first | omega | decide | (constructor <;> first | omega | decide)⟩)) | exact Or.inr (Or.inr (Or.inr ⟨rfl, by first | omega | decide | (constructor <;> first | omega | decide)⟩))) (fun S7 hP7 h27 => ?_))
  replace h29 := h29.pu hP7 (Or.inl (Nat.ne_of_beq_eq_false rfl))
  replace hs72 := hs72.pu hP7 trivial
  replace h24 := h24.pu hP7 (Or.inl (Nat.ne_of_beq_eq_false rfl))
  replace h25 := h25.pu hP7 (Or.inl (Nat.ne_of_beq_eq_false rfl))
  replace h26 := h26.pu hP7 (Or.inl (Nat.ne_of_beq_eq_false rfl))
  replace hm := hm.pu hP7 trivial
  replace hb := hb.pu hP7 trivial
  replace hw4 := hw4.pu hP7 trivial
  replace hA := hA.f1 hP7.fr (fun _ => rfl)
  have hL7 := hL.fr hA LW (by omega)
  have hx7 := hL7.1.obx
  have f14 : Fi S7 14 (K 1) (b2i A.2.2.2.2.2.2.2) := hL7.1.f14
  have hb2 : b2i A.2.2.2.2.2.2.2 = 0 ∨ b2i A.2.2.2.2.2.2.2 = 1 := by cases A.2.2.2.2.2.2.2 <;> decide
  (repeat (first | (refine BW.pl rfl rfl ?_) | (refine CW.geti rfl rfl (by assumption) rfl rfl (by assumption) (fun _ => ?_)) | (refine CW.getr rfl rfl (by assumption) rfl rfl (by assumption) ?_)))
  first | (refine CW.putr rfl rfl (by assumption) rfl (by decide) (fun S8 hP8 h28 => ?_)) | (refine CW.puti rfl (by assumption) rfl (by decide) (by first | exact Or.inl ⟨rfl, by first | omega | decide | (constructor <;> first | omega | decide)⟩ | exact Or.inr (Or.inl ⟨rfl, by first | omega | decide | (constructor <;> first | omega | decide)⟩) | exact Or.inr (Or.inr (Or.inl ⟨rfl, by first | omega | decide | (constructor <;> first | omega | decide)⟩)) | exact Or.inr (Or.inr (Or.inr ⟨rfl, by first | omega | decide | (constructor <;> first | omega | decide)⟩))) (fun S8 hP8 h28 => ?_))
  replace h29 := h29.pu hP8 (Or.inl (Nat.ne_of_beq_eq_false rfl))
  replace hs72 := hs72.pu hP8 trivial
  replace h24 := h24.pu hP8 (Or.inl (Nat.ne_of_beq_eq_false rfl))
  replace h25 := h25.pu hP8 (Or.inl (Nat.ne_of_beq_eq_false rfl))
  replace h26 := h26.pu hP8 (Or.inl (Nat.ne_of_beq_eq_false rfl))
  replace h27 := h27.pu hP8 (Or.inl (Nat.ne_of_beq_eq_false rfl))
  replace hm := hm.pu hP8 trivial
  replace hb := hb.pu hP8 trivial
  replace hw4 := hw4.pu hP8 trivial
  replace hA := hA.f1 hP8.fr (fun _ => rfl)
  have hL8 := hL.fr hA LW (by omega)
  (iterate 1 (refine BW.pl rfl rfl ?_))
  refine CW.newO (L := 6) (c := 4) rfl rfl rfl rfl (fun dm S9 hN9 => ?_)
  have hdz : S.1 dm = oNil := hA.nil hN9.nil
  have hdo : KoM K dm := hL8.1.ko hN9.nil
  have hmd : m ≠ dm := fun z => hmS.old (oNe rfl) (by rw [z]; exact hdz)
  have hbd : b ≠ dm := hb.neN hN9.nil (oNe rfl)
  have hwd : w ≠ dm := hw4.neN hN9.nil (oNe rfl)
  replace h29 := h29.fr hN9.fr ⟨⟨hm.old (oNe rfl), Nat.le_of_ble_eq_true rfl⟩, Sep.no⟩
  replace hs72 := hs72.fr hN9.fr NoS.no
  replace h24 := h24.fr hN9.fr ⟨⟨hm.old (oNe rfl), Nat.le_of_ble_eq_true rfl⟩, Sep.no⟩
  replace h25 := h25.fr hN9.fr ⟨⟨hm.old (oNe rfl), Nat.le_of_ble_eq_true rfl⟩, Sep.no⟩
  replace h26 := h26.fr hN9.fr ⟨⟨hm.old (oNe rfl), Nat.le_of_ble_eq_true rfl⟩, Sep.no⟩
  replace h27 := h27.fr hN9.fr ⟨⟨hm.old (oNe rfl), Nat.le_of_ble_eq_true rfl⟩, Sep.no⟩
  replace h28 := h28.fr hN9.fr ⟨⟨hm.old (oNe rfl), Nat.le_of_ble_eq_true rfl⟩, Sep.no⟩
  replace hm := hm.fr hN9.fr ⟨oNe rfl, Sep.no⟩
  replace hb := hb.fr hN9.fr ⟨oNe rfl, Sep.no⟩
  replace hw4 := hw4.fr hN9.fr ⟨oNe rfl, Sep.no⟩
  replace hA := hA.f0 hN9.fr
  have hdm := hN9.ob
  have hL9 := hL.fr hA LW (by omega)
  (repeat (refine BW.pl rfl rfl ?_))
  have hdk := hN9.1
  refine CW.c3 rfl rfl (by first | exact Or.inl rfl | exact Or.inr (tagO (by assumption) (by rfl) (by rfl))) (by first | exact Or.inl (by decide) | exact Or.inr ⟨_, rfl, by assumption⟩) rfl (L_deedNew (d := d) hL9 hdm hN9.1 hdo h40 (by omega) rfl hpl) ?_
  rintro r S10 ⟨rfl, hF10, hD10⟩
  replace h29 := h29.fr hF10 ⟨⟨hm.old (oNe rfl), Nat.le_of_ble_eq_true rfl⟩, (Sep.ne hmd)⟩
  replace hs72 := hs72.fr hF10 (NoS.one hdm rfl)
  replace h24 := h24.fr hF10 ⟨⟨hm.old (oNe rfl), Nat.le_of_ble_eq_true rfl⟩, (Sep.ne hmd)⟩
  replace h25 := h25.fr hF10 ⟨⟨hm.old (oNe rfl), Nat.le_of_ble_eq_true rfl⟩, (Sep.ne hmd)⟩
  replace h26 := h26.fr hF10 ⟨⟨hm.old (oNe rfl), Nat.le_of_ble_eq_true rfl⟩, (Sep.ne hmd)⟩
  replace h27 := h27.fr hF10 ⟨⟨hm.old (oNe rfl), Nat.le_of_ble_eq_true rfl⟩, (Sep.ne hmd)⟩
  replace h28 := h28.fr hF10 ⟨⟨hm.old (oNe rfl), Nat.le_of_ble_eq_true rfl⟩, (Sep.ne hmd)⟩
  replace hm := hm.fr hF10 ⟨oNe rfl, (Sep.ne hmd)⟩
  replace hb := hb.fr hF10 ⟨oNe rfl, (Sep.ne hbd)⟩
  replace hw4 := hw4.fr hF10 ⟨oNe rfl, (Sep.ne hwd)⟩
  replace hA := hA.f1 hF10 (fun z => absurd hdz z)
  (repeat (refine BW.pl rfl rfl ?_))
  have hD11 : ∀ S11, Pu S10 S11 23 m → DeedIs S11 K la dm (pl, A.1, A.2.1, A.2.2.2.2.2.1) := fun S11 hP => by
    obtain ⟨k, g1, g2, g3, g4, a, b, e, xs, ⟨k1, k2, k3⟩, ⟨g5, g6⟩, ⟨g7, g8⟩, g9, g10, g11⟩ := hD10
    have s : dm ≠ m := Ne.symm hmd
    exact ⟨k, g1.pu hP trivial, g2.pu hP (Or.inr s), g3.pu hP (Or.inr s), g4.pu hP (Or.inr s), a, b, e, xs, ⟨k1, k2, k3⟩, ⟨g5.pu hP (Or.inr s), g6.pu hP trivial⟩, ⟨g7.pu hP (Or.inr s), g8.pu hP trivial⟩, g9.pu hP trivial, g10.pu hP (Or.inr s), g11.pu hP trivial⟩
  first | (refine CW.putr rfl rfl (by assumption) rfl (by decide) (fun S11 hP11 h23 => ?_)) | (refine CW.puti rfl (by assumption) rfl (by decide) (by first | exact Or.inl ⟨rfl, by first | omega | decide | (constructor <;> first | omega | decide)⟩ | exact Or.inr (Or.inl ⟨rfl, by first | omega | decide | (constructor <;> first | omega | decide)⟩) | exact Or.inr (Or.inr (Or.inl ⟨rfl, by first | omega | decide | (constructor <;> first | omega | decide)⟩)) | exact Or.inr (Or.inr (Or.inr ⟨rfl, by first | omega | decide | (constructor <;> first | omega | decide)⟩))) (fun S11 hP11 h23 => ?_))
  replace h29 := h29.pu hP11 (Or.inl (Nat.ne_of_beq_eq_false rfl))
  replace hs72 := hs72.pu hP11 trivial
  replace h24 := h24.pu hP11 (Or.inl (Nat.ne_of_beq_eq_false rfl))
  replace h25 := h25.pu hP11 (Or.inl (Nat.ne_of_beq_eq_false rfl))
  replace h26 := h26.pu hP11 (Or.inl (Nat.ne_of_beq_eq_false rfl))
  replace h27 := h27.pu hP11 (Or.inl (Nat.ne_of_beq_eq_false rfl))
  replace h28 := h28.pu hP11 (Or.inl (Nat.ne_of_beq_eq_false rfl))
  replace hm := hm.pu hP11 trivial
  replace hb := hb.pu hP11 trivial
  replace hw4 := hw4.pu hP11 trivial
  replace hA := hA.f1 hP11.fr (fun _ => rfl)
  have hD11 := hD11 S11 hP11
  (iterate 2 (refine BW.pl rfl rfl ?_))
  -- the files
  have hA11 : Fr S S11 (fun k => k = m) (252 + 52 * 0) := hA.w (fun _ _ z => z) (by omega)
  have ew0 : FilA S11 K A.2.2.2.2.1 (List.replicate 4 none) 0 := ⟨by simp, fun k hk => absurd hk (Nat.not_lt_zero _)⟩
  have loop : ∀ (N j : Nat) (S2 : BS) (ws : List (Option Nat)), j + N = 4 → Fr S S2 (fun k => k = m) (252 + 52 * j) → Ob S2 m (oOwn 3) → Fe S2 29 m (some (K 1)) → Fe S2 24 m (some b) → Ob S2 b (oRa 105 xs7) → StrsIs S2 xs7 A.2.2.1 → Fe S2 25 m (some w) → Ob S2 w (oRa 107 ws) → FilA S2 K A.2.2.2.2.1 ws j → Fi S2 26 m A.2.2.2.1.length → Fi S2 27 m A.2.2.2.2.2.2.1 → Fi S2 28 m (b2i A.2.2.2.2.2.2.2) → Fe S2 23 m (some dm) → DeedIs S2 K la dm (pl, A.1, A.2.1, A.2.2.2.2.2.1) → BW (d + 8) gm_X9_init 40 [some (aR m), some (aR (K 1)), some (aI pl), some (aI j)] [] S2 (fun r S' => ∃ v, r = .inl v ∧ v = none ∧ Fr1 S S' m 460 ∧ AhIs S' K la m pl A) := by
    intro N
    induction N with
    | zero =>
      intro j S2 ws hj hA2 g1 g29 g24 gb gs g25 gw gf g26 g27 g28 g23 gd
      have hj4 : j = 4 := by omega
      subst hj4
      (repeat (refine BW.pl rfl rfl ?_))
      refine BW.br rfl rfl (by first | omega | decide | (constructor <;> first | omega | decide)) (fun z => ?_) (fun z => by first | (exfalso; omega) | exact absurd z (by decide))
      exact BW.ret rfl rfl ⟨_, rfl, rfl, hA2.w (fun _ _ z => z) (by omega), hko, g1, ⟨dm, g23, gd⟩, ⟨b, xs7, hbo, g24, gb, gs⟩, ⟨w, ws, hwo, g25, gw, gf⟩, g26, g27, g28, g29⟩
    | succ N ih =>
      intro j S2 ws hj hA2 g1 g29 g24 gb gs g25 gw gf g26 g27 g28 g23 gd
      have hL2 := hL.fr hA2 LW (by omega)
      have hx2 := hL2.1.obx
      have e9 := hL2.1.e9
      obtain ⟨cap9, h9⟩ := K_files hL2
      obtain ⟨capf, xsf, hlf, hsf, hcf⟩ := K_file hL2 (show j < 4 by omega)
      have ej : ((j : Nat) : Int).toNat = j := by omega
      have hxf := hsf.1
      have hf40 := h40f j
      (repeat (refine BW.pl rfl rfl ?_))
      refine BW.br rfl rfl (by first | omega | decide | (constructor <;> first | omega | decide)) (fun z => by first | (exfalso; omega) | exact absurd z (by decide)) (fun z => ?_)
      (repeat (first | (refine BW.pl rfl rfl ?_) | (refine CW.geti rfl rfl (by assumption) rfl rfl (by assumption) (fun _ => ?_)) | (refine CW.getr rfl rfl (by assumption) rfl rfl (by assumption) ?_)))
      refine CW.e2 rfl rfl (by first | exact Or.inl rfl | exact Or.inr (tagO (by assumption) (by rfl) (by rfl))) (by first | exact Or.inl (by decide) | exact Or.inr ⟨_, rfl, by assumption⟩) rfl (C_alGet (k := j) h9 (show j < 4 by omega) (K_get (by omega)) rfl) ?_
      refine CW.castS rfl hlf rfl rfl rfl ?_
      refine CW.c1 rfl rfl (by first | exact Or.inl rfl | exact Or.inr (tagO (by assumption) (by rfl) (by rfl))) (by first | exact Or.inl (by decide) | exact Or.inr ⟨_, rfl, by assumption⟩) rfl (L_rowsOf (d := d + 4) hlf hsf (by rw [hsf.1]; omega)) ?_
      rintro r S3 ⟨f, rfl, hf0, hfk, hf, hF3⟩
      have hfo := hL2.1.ko hf0
      have gw3 := gw.fr hF3 ⟨oNe rfl, Sep.no⟩
      have s9 := g1.old (oNe rfl)
      have hwf : f ≠ w := fun z => gw.old (oNe rfl) (by rw [← z]; exact hf0)
      refine CW.aast rfl gw3 ⟨by omega, by rw [gf.1]; omega⟩ (Or.inr ⟨f, rfl, by rw [show S3.1 f = _ from hf]; rfl, Or.inr ⟨rfl, by rw [show S3.1 f = _ from hf]; rfl, hfk⟩⟩) (fun S4 gw4 hF4 => ?_)
      rw [ej] at gw4
      have hF34 : Fr S2 S4 (fun k => k = w) (12 + xsf.length) := ((hF3.w (W2 := fun k => k = w) (c2 := 12 + xsf.length) (fun _ _ z => z.elim) (Nat.le_refl _)).tr hF4 (fun k hk z => z)).w (fun k hk z => z) (by omega)
      have hA4 : Fr S S4 (fun k => k = m) (252 + 52 * (j + 1)) := (hA2.tr hF34 (fun k hk z => absurd hwz (by rw [← z]; exact hk))).w (fun k hk z => z) (by omega)
      have nsw : NoS S2 (fun k => k = w) := NoS.one gw rfl
      (iterate 2 (refine BW.pl rfl rfl ?_))
      refine ih (j + 1) S4 (ws.set j (some f)) (by omega) hA4 (g1.fr hF34 ⟨oNe rfl, hmw⟩) (g29.fr hF34 ⟨⟨s9, by decide⟩, hmw⟩) (g24.fr hF34 ⟨⟨s9, by decide⟩, hmw⟩) (gb.fr hF34 ⟨oNe rfl, hbw⟩) (gs.fr hF34 nsw) (g25.fr hF34 ⟨⟨s9, by decide⟩, hmw⟩) gw4 ⟨by rw [List.length_set]; exact gf.1, fun k hk => ?_⟩ (g26.fr hF34 ⟨⟨s9, by decide⟩, hmw⟩) (g27.fr hF34 ⟨⟨s9, by decide⟩, hmw⟩) (g28.fr hF34 ⟨⟨s9, by decide⟩, hmw⟩) (g23.fr hF34 ⟨⟨s9, by decide⟩, hmw⟩) ?_
      · by_cases z : k = j
        · subst z
          refine ⟨f, xsf, ?_, hfo, hf.fr hF4 ⟨oNe rfl, hwf⟩, (hsf.fr hF3 NoS.no).fr hF4 (NoS.one gw3 rfl)⟩
          rw [List.getD_eq_getElem?_getD, List.getElem?_set_self (by rw [gf.1]; omega)]
          rfl
        · obtain ⟨w9, xs9, k1, k2, k3, k4⟩ := gf.2 k (by omega)
          refine ⟨w9, xs9, ?_, k2, k3.fr hF34 ⟨oNe rfl, fun y => ?_⟩, k4.fr hF34 nsw⟩
          · rw [List.getD_eq_getElem?_getD, List.getElem?_set_ne (Ne.symm z), ← List.getD_eq_getElem?_getD]
            exact k1
          · have y : w9 = w := y
            rw [y] at k3
            have e9 : oRa 105 xs9 = oRa 107 ws := k3.symm.trans gw
            have : (105 : Nat) = 107 := congrArg (fun o : Obj => o.2.2.2.1) e9
            omega
      · exact gd.frO hF34 gw (oNe rfl) (fun _ => oRa_ne rfl) (fun _ => oRa_ne rfl) rfl
  exact loop 4 0 S11 _ rfl hA11 hm h29 h24 hb hs72 h25 hw4 ew0 h26 h27 h28 h23 hD11
end AH
