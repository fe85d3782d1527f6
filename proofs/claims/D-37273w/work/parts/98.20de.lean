-- C
set_option maxRecDepth 100000
/-! LINEORDERS: what was (Deed), made -/
/-- the marks as they stand in an array -/
def mkA (la : Int → Nat) (mk : Nat → Option Int) : List (Option Nat) := (List.range 5).map (fun j => (mk j).map la)
/-- a deed as an object -/
def DeedIs (S : BS) (K : Nat → Nat) (la : Int → Nat) (m : Nat) (q : SDeed) : Prop := KoM K m ∧ Ob S m (oOwn 4) ∧ Fi S 30 m q.1 ∧ Fi S 34 m q.2.2.1 ∧ Fe S 35 m (some (K 1)) ∧ ∃ a b e xs, (KoM K a ∧ KoM K b ∧ KoM K e) ∧ (Fe S 31 m (some a) ∧ Ob S a (oRa 106 (lsOf la (idsOfL q.2.1)))) ∧ (Fe S 32 m (some b) ∧ Ob S b (oRa 105 xs)) ∧ StrsIs S xs (rowsOfL q.2.1) ∧ Fe S 33 m (some e) ∧ Ob S e (oRa 106 (mkA la q.2.2.2))
section DE
variable {d n m q i a b e y cap c k j pl B : Nat} {S S' S0 S1 S2 : BS} {K : Nat → Nat} {la la' : Int → Nat} {A : St} {V : Nat → Prop} {v nn b1 x1 : Int} {r : Option Nat} {dq : SDeed} {t : List SLine} {xs : List (Option Nat)}
theorem mkA_len {mk : Nat → Option Int} : (mkA la mk).length = 5 := by unfold mkA; simp
theorem mkA_get {mk : Nat → Option Int} (hj : j < 5) : (mkA la mk).getD j none = (mk j).map la := by
  unfold mkA
  rw [List.getD_eq_getElem?_getD, List.getElem?_map, List.getElem?_range hj]
  rfl
theorem mkA_ext {mk : Nat → Option Int} (h : ∀ j x, j < 5 → mk j = some x → la' x = la x) : mkA la' mk = mkA la mk := by
  unfold mkA
  refine List.map_congr_left (fun j hj => ?_)
  have hj := List.mem_range.mp hj
  cases hm : mk j with
  | none => rfl
  | some x =>
    show some (la' x) = some (la x)
    rw [h j x hj hm]
theorem DeedIs.xf (h : DeedIs S K la m dq) (hX : XF K V S S') : DeedIs S' K la m dq := by
  obtain ⟨k, h1, h2, h3, h4, a, b, e, xs, ⟨k1, k2, k3⟩, ⟨h5, h6⟩, ⟨h7, h8⟩, h9, h10, h11⟩ := h
  exact ⟨k, (hX.ob h1 k (oNe rfl) rfl).1, hX.fi h1 k (oNe rfl) rfl h2 (by decide), hX.fi h1 k (oNe rfl) rfl h3 (by decide), hX.fe h1 k (oNe rfl) rfl h4 (by decide), a, b, e, xs, ⟨k1, k2, k3⟩, ⟨hX.fe h1 k (oNe rfl) rfl h5 (by decide), (hX.ob h6 k1 (oNe rfl) rfl).1⟩, ⟨hX.fe h1 k (oNe rfl) rfl h7 (by decide), (hX.ob h8 k2 (oNe rfl) rfl).1⟩, h9.xf hX, hX.fe h1 k (oNe rfl) rfl h10 (by decide), (hX.ob h11 k3 (oNe rfl) rfl).1⟩
theorem DeedIs.fr (h : DeedIs S K la m dq) (hF : Fr S S' (fun k => k = y) c) (hy : ∀ z, KoM K z → z ≠ y) (hn : NoS S (fun k => k = y)) : DeedIs S' K la m dq := by
  obtain ⟨k, h1, h2, h3, h4, a, b, e, xs, ⟨k1, k2, k3⟩, ⟨h5, h6⟩, ⟨h7, h8⟩, h9, h10, h11⟩ := h
  have s := h1.old (oNe rfl)
  exact ⟨k, h1.fr hF ⟨oNe rfl, hy _ k⟩, h2.fr hF ⟨⟨s, by decide⟩, hy _ k⟩, h3.fr hF ⟨⟨s, by decide⟩, hy _ k⟩, h4.fr hF ⟨⟨s, by decide⟩, hy _ k⟩, a, b, e, xs, ⟨k1, k2, k3⟩, ⟨h5.fr hF ⟨⟨s, by decide⟩, hy _ k⟩, h6.fr hF ⟨oNe rfl, hy _ k1⟩⟩, ⟨h7.fr hF ⟨⟨s, by decide⟩, hy _ k⟩, h8.fr hF ⟨oNe rfl, hy _ k2⟩⟩, h9.fr hF hn, h10.fr hF ⟨⟨s, by decide⟩, hy _ k⟩, h11.fr hF ⟨oNe rfl, hy _ k3⟩⟩
theorem oRa_ne {c c' : Nat} {xs ys : List (Option Nat)} (h : Nat.beq c c' = false) : oRa c xs ≠ oRa c' ys := fun z => by
  have : c = c' := congrArg (fun o : Obj => o.2.2.2.1) z
  subst this
  rw [Nat.beq_refl] at h; cases h
/-- an object changes that is no part of a deed -/
theorem DeedIs.frO {o : Obj} (h : DeedIs S K la m dq) (hF : Fr S S' (fun k => k = y) c) (ho : Ob S y o) (h1 : o ≠ oOwn 4) (h2 : ∀ xs, o ≠ oRa 105 xs) (h3 : ∀ xs, o ≠ oRa 106 xs) (hn : (o.1 == 1) = false) : DeedIs S' K la m dq := by
  obtain ⟨k, g1, g2, g3, g4, a, b, e, xs, ⟨k1, k2, k3⟩, ⟨g5, g6⟩, ⟨g7, g8⟩, g9, g10, g11⟩ := h
  have s := g1.old (oNe rfl)
  have hm : m ≠ y := fun z => h1 (ho.symm.trans (by rw [← z]; exact g1))
  have ha : a ≠ y := fun z => h3 _ (ho.symm.trans (by rw [← z]; exact g6))
  have hb : b ≠ y := fun z => h2 _ (ho.symm.trans (by rw [← z]; exact g8))
  have he : e ≠ y := fun z => h3 _ (ho.symm.trans (by rw [← z]; exact g11))
  exact ⟨k, g1.fr hF ⟨oNe rfl, hm⟩, g2.fr hF ⟨⟨s, by decide⟩, hm⟩, g3.fr hF ⟨⟨s, by decide⟩, hm⟩, g4.fr hF ⟨⟨s, by decide⟩, hm⟩, a, b, e, xs, ⟨k1, k2, k3⟩, ⟨g5.fr hF ⟨⟨s, by decide⟩, hm⟩, g6.fr hF ⟨oNe rfl, ha⟩⟩, ⟨g7.fr hF ⟨⟨s, by decide⟩, hm⟩, g8.fr hF ⟨oNe rfl, hb⟩⟩, g9.fr hF (NoS.one ho hn), g10.fr hF ⟨⟨s, by decide⟩, hm⟩, g11.fr hF ⟨oNe rfl, he⟩⟩
theorem DeedIs.pu (h : DeedIs S K la m dq) {F : Nat} (hP : Pu S S' F (K 1)) : DeedIs S' K la m dq := by
  have hy : ∀ z, KoM K z → z ≠ K 1 := fun z hz => hz 1 (by decide)
  obtain ⟨k, h1, h2, h3, h4, a, b, e, xs, ⟨k1, k2, k3⟩, ⟨h5, h6⟩, ⟨h7, h8⟩, h9, h10, h11⟩ := h
  have s := Or.inr (a := (30 : Nat) ≠ F) (hy _ k)
  exact ⟨k, h1.pu hP trivial, h2.pu hP (Or.inr (hy _ k)), h3.pu hP (Or.inr (hy _ k)), h4.pu hP (Or.inr (hy _ k)), a, b, e, xs, ⟨k1, k2, k3⟩, ⟨h5.pu hP (Or.inr (hy _ k)), h6.pu hP trivial⟩, ⟨h7.pu hP (Or.inr (hy _ k)), h8.pu hP trivial⟩, h9.pu hP trivial, h10.pu hP (Or.inr (hy _ k)), h11.pu hP trivial⟩
theorem DeedIs.xg (h : DeedIs S K la m dq) (hX : XG K V S S') : DeedIs S' K la m dq := by
  obtain ⟨Sx, h1, h2⟩ := hX
  exact (h.xf h1).pu h2
/-- lines elsewhere -/
theorem DeedIs.lae (h : DeedIs S K la m dq) {n : Int} (hE : LaE la la' n) (h1 : ∀ x ∈ idsOfL dq.2.1, x < n) (h2 : ∀ j x, j < 5 → dq.2.2.2 j = some x → x < n) : DeedIs S K la' m dq := by
  obtain ⟨k, g1, g2, g3, g4, a, b, e, xs, k1, ⟨g5, g6⟩, g7, g8, g9, g10⟩ := h
  refine ⟨k, g1, g2, g3, g4, a, b, e, xs, k1, ⟨g5, ?_⟩, g7, g8, g9, ?_⟩
  · rw [lsOf_ext (fun x hx => hE x (h1 x hx))]; exact g6
  · rw [mkA_ext (fun j x hj hx => hE x (h2 j x hj hx))]; exact g10
/-- the rows of lines as they stand in fields -/
def rwsF (S : BS) (la : Int → Nat) (t : List SLine) : List (Option Nat) := t.map (fun q => S.2.2.1 44 (la q.1))
theorem rwsF_is {nn : Int} (h : RowsI S la nn t) : StrsIs S (rwsF S la t) (rowsOfL t) := by
  refine ⟨by unfold rwsF rowsOfL; rw [List.length_map, List.length_map], fun j hj => ?_⟩
  have hj : j < t.length := by unfold rowsOfL at hj; simpa using hj
  have hm : t[j] ∈ t := List.getElem_mem hj
  obtain ⟨-, -, r, h1, h2⟩ := h _ hm
  have e1 : (rwsF S la t).getD j none = r := by
    unfold rwsF
    rw [List.getD_eq_getElem?_getD, List.getElem?_map, List.getElem?_eq_getElem hj]
    exact h1
  have e2 : (rowsOfL t).getD j [] = t[j].2 := by
    unfold rowsOfL
    rw [List.getD_eq_getElem?_getD, List.getElem?_map, List.getElem?_eq_getElem hj]
    rfl
  rw [e1, e2]
  exact h2
theorem L_deedNew (hL : LO S K la A B) (hm : Ob S m (oOwn 4)) (hmk : 1000 ≤ m) (hko : KoM K m) (h40 : A.1.length ≤ 40) (hB : B + 200 ≤ 20000000) (hv : v = (pl : Int)) (hpl : pl < 2000000) : BMr (d + 8) gk_X10_init [aR m, aR (K 1), aI v] S (fun r S' => r = none ∧ Fr1 S S' m 140 ∧ DeedIs S' K la m (pl, A.1, A.2.1, A.2.2.2.2.2.1)) := by
  subst hv
  obtain ⟨t, p, G⟩ := A
  have h40 : t.length ≤ 40 := h40
  have LW : LoW K S (fun k => k = m) := LoW.one hko hm (ownNe rfl) rfl
  have hmS := hm
  have hA := Fr.rf (S := S) (W := fun k => k = m)
  refine BM.of rfl rfl rfl ?_
  (repeat (refine BW.pl rfl rfl ?_))
  first | (refine CW.putr rfl rfl (by assumption) rfl (by decide) (fun S1 hP1 h35 => ?_)) | (refine CW.puti rfl (by assumption) rfl (by decide) (by first | exact Or.inl ⟨rfl, by first | omega | decide | (constructor <;> first | omega | decide)⟩ | exact Or.inr (Or.inl ⟨rfl, by first | omega | decide | (constructor <;> first | omega | decide)⟩) | exact Or.inr (Or.inr (Or.inl ⟨rfl, by first | omega | decide | (constructor <;> first | omega | decide)⟩)) | exact Or.inr (Or.inr (Or.inr ⟨rfl, by first | omega | decide | (constructor <;> first | omega | decide)⟩))) (fun S1 hP1 h35 => ?_))
  replace hm := hm.pu hP1 trivial
  replace hA := hA.f1 hP1.fr (fun _ => rfl)
  (repeat (refine BW.pl rfl rfl ?_))
  refine BW.oini rfl hmk (Nat.le_of_ble_eq_true rfl) ?_
  have hL1 := hL.fr hA LW (by omega)
  have hx1 := hL1.1.obx
  have e3 := hL1.1.e3
  obtain ⟨mc0, hT1⟩ := hL1.1.text
  have hl0 : (lsOf la (idsOfL t)).length = t.length := by rw [lsOf_len, ids_len]
  (repeat (first | (refine BW.pl rfl rfl ?_) | (refine CW.geti rfl rfl (by assumption) rfl rfl (by assumption) (fun _ => ?_)) | (refine CW.getr rfl rfl (by assumption) rfl rfl (by assumption) ?_)))
  refine CW.e1 rfl rfl (by first | exact Or.inl rfl | exact Or.inr (tagO (by assumption) (by rfl) (by rfl))) (by first | exact Or.inl (by decide) | exact Or.inr ⟨_, rfl, by assumption⟩) rfl (B_llSize hT1) ?_
  rw [hl0]
  refine CW.arrR rfl rfl rfl ⟨by omega, by omega⟩ (fun a S2 hNa => ?_)
  have hao := hL1.1.ko hNa.nil
  have haz : S.1 a = oNil := hA.nil hNa.nil
  replace h35 := h35.fr hNa.fr ⟨⟨hm.old (oNe rfl), Nat.le_of_ble_eq_true rfl⟩, Sep.no⟩
  replace hm := hm.fr hNa.fr ⟨oNe rfl, Sep.no⟩
  replace hA := hA.f0 hNa.fr
  have ha := hNa.ob
  have e0 : ((t.length : Int)).toNat = t.length := by omega
  rw [e0] at ha hA
  have hma : m ≠ a := fun z => hmS.old (oNe rfl) (by rw [z]; exact haz)
  first | (refine CW.putr rfl rfl (by assumption) rfl (by decide) (fun S3 hP3 h31 => ?_)) | (refine CW.puti rfl (by assumption) rfl (by decide) (by first | exact Or.inl ⟨rfl, by first | omega | decide | (constructor <;> first | omega | decide)⟩ | exact Or.inr (Or.inl ⟨rfl, by first | omega | decide | (constructor <;> first | omega | decide)⟩) | exact Or.inr (Or.inr (Or.inl ⟨rfl, by first | omega | decide | (constructor <;> first | omega | decide)⟩)) | exact Or.inr (Or.inr (Or.inr ⟨rfl, by first | omega | decide | (constructor <;> first | omega | decide)⟩))) (fun S3 hP3 h31 => ?_))
  replace h35 := h35.pu hP3 (Or.inl (Nat.ne_of_beq_eq_false rfl))
  replace hm := hm.pu hP3 trivial
  replace ha := ha.pu hP3 trivial
  replace hA := hA.f1 hP3.fr (fun _ => rfl)
  have hL3 := hL.fr hA LW (by omega)
  have hx3 := hL3.1.obx
  have e33 := hL3.1.e3
  obtain ⟨mc3, hT3⟩ := hL3.1.text
  (repeat (first | (refine BW.pl rfl rfl ?_) | (refine CW.geti rfl rfl (by assumption) rfl rfl (by assumption) (fun _ => ?_)) | (refine CW.getr rfl rfl (by assumption) rfl rfl (by assumption) ?_)))
  refine CW.e1 rfl rfl (by first | exact Or.inl rfl | exact Or.inr (tagO (by assumption) (by rfl) (by rfl))) (by first | exact Or.inl (by decide) | exact Or.inr ⟨_, rfl, by assumption⟩) rfl (B_llSize hT3) ?_
  rw [hl0]
  refine CW.arrR rfl rfl rfl ⟨by omega, by omega⟩ (fun b S4 hNb => ?_)
  have hbo := hL3.1.ko hNb.nil
  have hbz : S.1 b = oNil := hA.nil hNb.nil
  have hab : a ≠ b := ha.neN hNb.nil (oNe rfl)
  replace h35 := h35.fr hNb.fr ⟨⟨hm.old (oNe rfl), Nat.le_of_ble_eq_true rfl⟩, Sep.no⟩
  replace h31 := h31.fr hNb.fr ⟨⟨hm.old (oNe rfl), Nat.le_of_ble_eq_true rfl⟩, Sep.no⟩
  replace hm := hm.fr hNb.fr ⟨oNe rfl, Sep.no⟩
  replace ha := ha.fr hNb.fr ⟨oNe rfl, Sep.no⟩
  replace hA := hA.f0 hNb.fr
  have hb := hNb.ob
  rw [e0] at hb hA
  have hmb : m ≠ b := fun z => hmS.old (oNe rfl) (by rw [z]; exact hbz)
  first | (refine CW.putr rfl rfl (by assumption) rfl (by decide) (fun S5 hP5 h32 => ?_)) | (refine CW.puti rfl (by assumption) rfl (by decide) (by first | exact Or.inl ⟨rfl, by first | omega | decide | (constructor <;> first | omega | decide)⟩ | exact Or.inr (Or.inl ⟨rfl, by first | omega | decide | (constructor <;> first | omega | decide)⟩) | exact Or.inr (Or.inr (Or.inl ⟨rfl, by first | omega | decide | (constructor <;> first | omega | decide)⟩)) | exact Or.inr (Or.inr (Or.inr ⟨rfl, by first | omega | decide | (constructor <;> first | omega | decide)⟩))) (fun S5 hP5 h32 => ?_))
  replace h35 := h35.pu hP5 (Or.inl (Nat.ne_of_beq_eq_false rfl))
  replace h31 := h31.pu hP5 (Or.inl (Nat.ne_of_beq_eq_false rfl))
  replace hm := hm.pu hP5 trivial
  replace ha := ha.pu hP5 trivial
  replace hb := hb.pu hP5 trivial
  replace hA := hA.f1 hP5.fr (fun _ => rfl)
  (repeat (refine BW.pl rfl rfl ?_))
  refine CW.arrR rfl rfl rfl ⟨by omega, by omega⟩ (fun e S6 hNe => ?_)
  have heo : KoM K e := (hL.fr hA LW (by omega)).1.ko hNe.nil
  have hez : S.1 e = oNil := hA.nil hNe.nil
  have hae : a ≠ e := ha.neN hNe.nil (oNe rfl)
  have hbe : b ≠ e := hb.neN hNe.nil (oNe rfl)
  replace h35 := h35.fr hNe.fr ⟨⟨hm.old (oNe rfl), Nat.le_of_ble_eq_true rfl⟩, Sep.no⟩
  replace h31 := h31.fr hNe.fr ⟨⟨hm.old (oNe rfl), Nat.le_of_ble_eq_true rfl⟩, Sep.no⟩
  replace h32 := h32.fr hNe.fr ⟨⟨hm.old (oNe rfl), Nat.le_of_ble_eq_true rfl⟩, Sep.no⟩
  replace hm := hm.fr hNe.fr ⟨oNe rfl, Sep.no⟩
  replace ha := ha.fr hNe.fr ⟨oNe rfl, Sep.no⟩
  replace hb := hb.fr hNe.fr ⟨oNe rfl, Sep.no⟩
  replace hA := hA.f0 hNe.fr
  have he : Ob S6 e (oRa 106 (List.replicate 5 none)) := hNe.ob
  have hme : m ≠ e := fun z => hmS.old (oNe rfl) (by rw [z]; exact hez)
  first | (refine CW.putr rfl rfl (by assumption) rfl (by decide) (fun S7 hP7 h33 => ?_)) | (refine CW.puti rfl (by assumption) rfl (by decide) (by first | exact Or.inl ⟨rfl, by first | omega | decide | (constructor <;> first | omega | decide)⟩ | exact Or.inr (Or.inl ⟨rfl, by first | omega | decide | (constructor <;> first | omega | decide)⟩) | exact Or.inr (Or.inr (Or.inl ⟨rfl, by first | omega | decide | (constructor <;> first | omega | decide)⟩)) | exact Or.inr (Or.inr (Or.inr ⟨rfl, by first | omega | decide | (constructor <;> first | omega | decide)⟩))) (fun S7 hP7 h33 => ?_))
  replace h35 := h35.pu hP7 (Or.inl (Nat.ne_of_beq_eq_false rfl))
  replace h31 := h31.pu hP7 (Or.inl (Nat.ne_of_beq_eq_false rfl))
  replace h32 := h32.pu hP7 (Or.inl (Nat.ne_of_beq_eq_false rfl))
  replace hm := hm.pu hP7 trivial
  replace ha := ha.pu hP7 trivial
  replace hb := hb.pu hP7 trivial
  replace he := he.pu hP7 trivial
  replace hA := hA.f1 hP7.fr (fun _ => rfl)
  have hL7 := hL.fr hA LW (by omega)
  have hx7 := hL7.1.obx
  have f57 : Fi S7 5 (K 1) (p : Int) := hL7.1.f5
  (repeat (first | (refine BW.pl rfl rfl ?_) | (refine CW.geti rfl rfl (by assumption) rfl rfl (by assumption) (fun _ => ?_)) | (refine CW.getr rfl rfl (by assumption) rfl rfl (by assumption) ?_)))
  first | (refine CW.putr rfl rfl (by assumption) rfl (by decide) (fun S8 hP8 h34 => ?_)) | (refine CW.puti rfl (by assumption) rfl (by decide) (by first | exact Or.inl ⟨rfl, by first | omega | decide | (constructor <;> first | omega | decide)⟩ | exact Or.inr (Or.inl ⟨rfl, by first | omega | decide | (constructor <;> first | omega | decide)⟩) | exact Or.inr (Or.inr (Or.inl ⟨rfl, by first | omega | decide | (constructor <;> first | omega | decide)⟩)) | exact Or.inr (Or.inr (Or.inr ⟨rfl, by first | omega | decide | (constructor <;> first | omega | decide)⟩))) (fun S8 hP8 h34 => ?_))
  replace h35 := h35.pu hP8 (Or.inl (Nat.ne_of_beq_eq_false rfl))
  replace h31 := h31.pu hP8 (Or.inl (Nat.ne_of_beq_eq_false rfl))
  replace h32 := h32.pu hP8 (Or.inl (Nat.ne_of_beq_eq_false rfl))
  replace h33 := h33.pu hP8 (Or.inl (Nat.ne_of_beq_eq_false rfl))
  replace hm := hm.pu hP8 trivial
  replace ha := ha.pu hP8 trivial
  replace hb := hb.pu hP8 trivial
  replace he := he.pu hP8 trivial
  replace hA := hA.f1 hP8.fr (fun _ => rfl)
  (repeat (refine BW.pl rfl rfl ?_))
  first | (refine CW.putr rfl rfl (by assumption) rfl (by decide) (fun S9 hP9 h30 => ?_)) | (refine CW.puti rfl (by assumption) rfl (by decide) (by first | exact Or.inl ⟨rfl, by first | omega | decide | (constructor <;> first | omega | decide)⟩ | exact Or.inr (Or.inl ⟨rfl, by first | omega | decide | (constructor <;> first | omega | decide)⟩) | exact Or.inr (Or.inr (Or.inl ⟨rfl, by first | omega | decide | (constructor <;> first | omega | decide)⟩)) | exact Or.inr (Or.inr (Or.inr ⟨rfl, by first | omega | decide | (constructor <;> first | omega | decide)⟩))) (fun S9 hP9 h30 => ?_))
  replace h35 := h35.pu hP9 (Or.inl (Nat.ne_of_beq_eq_false rfl))
  replace h31 := h31.pu hP9 (Or.inl (Nat.ne_of_beq_eq_false rfl))
  replace h32 := h32.pu hP9 (Or.inl (Nat.ne_of_beq_eq_false rfl))
  replace h33 := h33.pu hP9 (Or.inl (Nat.ne_of_beq_eq_false rfl))
  replace h34 := h34.pu hP9 (Or.inl (Nat.ne_of_beq_eq_false rfl))
  replace hm := hm.pu hP9 trivial
  replace ha := ha.pu hP9 trivial
  replace hb := hb.pu hP9 trivial
  replace he := he.pu hP9 trivial
  replace hA := hA.f1 hP9.fr (fun _ => rfl)
  have hL9 := hL.fr hA LW (by omega)
  have hx9 := hL9.1.obx
  have e39 := hL9.1.e3
  obtain ⟨mc9, hT9⟩ := hL9.1.text
  (iterate 2 (refine BW.pl rfl rfl ?_))
  (repeat (first | (refine BW.pl rfl rfl ?_) | (refine CW.geti rfl rfl (by assumption) rfl rfl (by assumption) (fun _ => ?_)) | (refine CW.getr rfl rfl (by assumption) rfl rfl (by assumption) ?_)))
  refine CW.c1 rfl rfl (by first | exact Or.inl rfl | exact Or.inr (tagO (by assumption) (by rfl) (by rfl))) (by first | exact Or.inl (by decide) | exact Or.inr ⟨_, rfl, by assumption⟩) rfl (C_llIt hT9 (by rw [hl0]; omega)) ?_
  rintro r S10 ⟨it, rfl, hit0, hitk, hit, hF10⟩
  have hizS : S.1 it = oNil := hA.nil hit0
  replace h35 := h35.fr hF10 ⟨⟨hm.old (oNe rfl), Nat.le_of_ble_eq_true rfl⟩, Sep.no⟩
  replace h31 := h31.fr hF10 ⟨⟨hm.old (oNe rfl), Nat.le_of_ble_eq_true rfl⟩, Sep.no⟩
  replace h32 := h32.fr hF10 ⟨⟨hm.old (oNe rfl), Nat.le_of_ble_eq_true rfl⟩, Sep.no⟩
  replace h33 := h33.fr hF10 ⟨⟨hm.old (oNe rfl), Nat.le_of_ble_eq_true rfl⟩, Sep.no⟩
  replace h34 := h34.fr hF10 ⟨⟨hm.old (oNe rfl), Nat.le_of_ble_eq_true rfl⟩, Sep.no⟩
  replace h30 := h30.fr hF10 ⟨⟨hm.old (oNe rfl), Nat.le_of_ble_eq_true rfl⟩, Sep.no⟩
  replace hm := hm.fr hF10 ⟨oNe rfl, Sep.no⟩
  replace ha := ha.fr hF10 ⟨oNe rfl, Sep.no⟩
  replace hb := hb.fr hF10 ⟨oNe rfl, Sep.no⟩
  replace he := he.fr hF10 ⟨oNe rfl, Sep.no⟩
  replace hA := hA.f0 hF10
  have hT10 := hT9.fr hF10 ⟨oNe rfl, Sep.no⟩
  have hxr := rwsF_is hL.2
  have hxl : (rwsF S la t).length = t.length := by unfold rwsF; rw [List.length_map]
  have ea0 : List.replicate t.length (none : Option Nat) = filA (lsOf la (idsOfL t)) 0 := by rw [filA_0, hl0]
  have eb0 : List.replicate t.length (none : Option Nat) = filA (rwsF S la t) 0 := by rw [filA_0, hxl]
  rw [ea0] at ha
  rw [eb0] at hb
  (iterate 1 (refine BW.pl rfl rfl ?_))
  -- the marks
  have marks : ∀ (N j : Nat) (S2 : BS) (v4 : Option GV), gn1 v4 = true → j + N = 5 → Fr S S2 (fun k => k = m) 140 → Ob S2 m (oOwn 4) → Fi S2 30 m (pl : Int) → Fi S2 34 m (p : Int) → Fe S2 35 m (some (K 1)) → Fe S2 31 m (some a) → Ob S2 a (oRa 106 (lsOf la (idsOfL t))) → Fe S2 32 m (some b) → Ob S2 b (oRa 105 (rwsF S la t)) → Fe S2 33 m (some e) → Ob S2 e (oRa 106 (filA (mkA la G.2.2.2.1) j)) → BW (d + 7) gm_X10_init 60 [some (aR m), some (aR (K 1)), some (aI pl), v4, some (aI j)] [] S2 (fun r S' => ∃ v, r = .inl v ∧ v = none ∧ Fr1 S S' m 140 ∧ DeedIs S' K la m (pl, t, p, G.2.2.2.1)) := by
    intro N
    induction N with
    | zero =>
      intro j S2 v4 g4 hj hA2 hm2 g30 g34 g35 g31 ga g32 gb g33 ge
      have hj5 : j = 5 := by omega
      subst hj5
      (repeat (refine BW.pl rfl rfl ?_))
      refine BW.br rfl rfl (by first | omega | decide | (constructor <;> first | omega | decide)) (fun w => ?_) (fun w => by first | (exfalso; omega) | exact absurd w (by decide))
      refine BW.ret rfl rfl ⟨_, rfl, rfl, hA2, hko, hm2, g30, g34, g35, a, b, e, _, ⟨hao, hbo, heo⟩, ⟨g31, ga⟩, ⟨g32, gb⟩, hxr.fr hA2 (NoS.one hmS rfl), g33, ?_⟩
      have e5 : filA (mkA la G.2.2.2.1) 5 = mkA la G.2.2.2.1 := by
        have := filA_end (xs := mkA la G.2.2.2.1)
        rw [mkA_len] at this
        exact this
      rw [e5] at ge
      exact ge
    | succ N ih =>
      intro j S2 v4 g4 hj hA2 hm2 g30 g34 g35 g31 ga g32 gb g33 ge
      have hL2 := hL.fr hA2 LW (by omega)
      have hx2 := hL2.1.obx
      have e6 := hL2.1.e6
      obtain ⟨M, hM, hMk⟩ := hL2.1.marks
      obtain ⟨hMj, hMx⟩ := hMk j (by omega)
      have hgl : (filA (mkA la G.2.2.2.1) j).length = 5 := by rw [filA_len (by rw [mkA_len]; omega), mkA_len]
      have ej : ((j : Nat) : Int).toNat = j := by omega
      have fin : ∀ S3, Ob S3 e (oRa 106 ((filA (mkA la G.2.2.2.1) j).set ((j : Int)).toNat (M (j : Int)))) → Fr1 S2 S3 e 0 → BW (d + 7) gm_X10_init 73 [some (aR m), some (aR (K 1)), some (aI pl), v4, some (aI j)] [] S3 (fun r S' => ∃ v, r = .inl v ∧ v = none ∧ Fr1 S S' m 140 ∧ DeedIs S' K la m (pl, t, p, G.2.2.2.1)) := by
        intro S3 ge3 hF3
        rw [ej, hMj, ← mkA_get (la := la) (mk := G.2.2.2.1) (show j < 5 by omega), filA_set (by rw [mkA_len]; omega)] at ge3
        have hA3 : Fr S S3 (fun k => k = m) 140 := (hA2.tr hF3 (fun k hk z => absurd hez (by rw [← z]; exact hk))).w (fun _ _ z => z) (Nat.le_refl _)
        have s9 := hm2.old (oNe rfl)
        have hme' : Sep S2 (fun k => k = e) m := hme
        refine BW.incV rfl rfl rfl (by simp only [List.all_cons, List.all_nil, g4]; rfl) ?_
        refine BW.pl rfl rfl ?_
        exact ih (j + 1) S3 _ g4 (by omega) hA3 (hm2.fr hF3 ⟨oNe rfl, hme⟩) (g30.fr hF3 ⟨⟨s9, by decide⟩, hme⟩) (g34.fr hF3 ⟨⟨s9, by decide⟩, hme⟩) (g35.fr hF3 ⟨⟨s9, by decide⟩, hme⟩) (g31.fr hF3 ⟨⟨s9, by decide⟩, hme⟩) (ga.fr hF3 ⟨oNe rfl, hae⟩) (g32.fr hF3 ⟨⟨s9, by decide⟩, hme⟩) (gb.fr hF3 ⟨oNe rfl, hbe⟩) (g33.fr hF3 ⟨⟨s9, by decide⟩, hme⟩) ge3
      (repeat (refine BW.pl rfl rfl ?_))
      refine BW.br rfl rfl (by first | omega | decide | (constructor <;> first | omega | decide)) (fun w => by first | (exfalso; omega) | exact absurd w (by decide)) (fun w => ?_)
      (repeat (first | (refine BW.pl rfl rfl ?_) | (refine CW.geti rfl rfl (by assumption) rfl rfl (by assumption) (fun _ => ?_)) | (refine CW.getr rfl rfl (by assumption) rfl rfl (by assumption) ?_)))
      refine CW.e1 rfl rfl (by first | exact Or.inl rfl | exact Or.inr (tagO (by assumption) (by rfl) (by rfl))) (by first | exact Or.inl (by decide) | exact Or.inr ⟨_, rfl, by assumption⟩) rfl (B_intOf ⟨by omega, by omega⟩) ?_
      refine CW.e2 rfl rfl (by first | exact Or.inl rfl | exact Or.inr (tagO (by assumption) (by rfl) (by rfl))) (by first | exact Or.inl (by decide) | exact Or.inr ⟨_, rfl, by assumption⟩) rfl (C_tmGet hM ⟨by omega, by omega⟩ rfl) ?_
      cases hz : M (j : Int) with
      | none =>
        rw [hz] at fin
        refine CW.castN rfl ?_
        exact CW.aast rfl ge ⟨by omega, by omega⟩ (Or.inl ⟨rfl, by decide⟩) (fun S3 h1 h2 => fin S3 h1 h2)
      | some y =>
        rw [hz] at fin hMj
        cases hmk9 : G.2.2.2.1 j with
        | none => rw [hmk9] at hMj; cases hMj
        | some x =>
          rw [hmk9] at hMj
          have hxr9 := hMx x hmk9
          have ey : y = la x := Option.some.inj hMj
          subst ey
          have hxo : Ob S2 (la x) (oOwn 6) := (hL2.1.2.2.1.1.1 x hxr9.1 hxr9.2).1
          refine CW.castS rfl hxo rfl rfl rfl ?_
          exact CW.aast rfl ge ⟨by omega, by omega⟩ (Or.inr ⟨_, rfl, by rw [show S2.1 (la x) = _ from hxo]; rfl, Or.inl (by rw [show S2.1 (la x) = _ from hxo]; rfl)⟩) (fun S3 h1 h2 => fin S3 h1 h2)
  -- the lines
  have lines : ∀ (N j : Nat) (S2 : BS) (lr : Nat), j + N = t.length → Fr S S2 (fun k => k = m) 140 → Ob S2 m (oOwn 4) → Fi S2 30 m (pl : Int) → Fi S2 34 m (p : Int) → Fe S2 35 m (some (K 1)) → Fe S2 31 m (some a) → Ob S2 a (oRa 106 (filA (lsOf la (idsOfL t)) j)) → Fe S2 32 m (some b) → Ob S2 b (oRa 105 (filA (rwsF S la t) j)) → Fe S2 33 m (some e) → Ob S2 e (oRa 106 (List.replicate 5 none)) → Ob S2 it (oIt (K 3) j mc9 lr) → Ob S2 (K 3) (oLl (lsOf la (idsOfL t)) mc9) → BW (d + 7) gm_X10_init 37 [some (aR m), some (aR (K 1)), some (aI pl), some (aI j), some (aR it)] [] S2 (fun r S' => ∃ v, r = .inl v ∧ v = none ∧ Fr1 S S' m 140 ∧ DeedIs S' K la m (pl, t, p, G.2.2.2.1)) := by
    intro N
    induction N with
    | zero =>
      intro j S2 lr hj hA2 hm2 g30 g34 g35 g31 ga g32 gb g33 ge gi hT2
      have hjt : j = t.length := by omega
      have ea : filA (lsOf la (idsOfL t)) j = lsOf la (idsOfL t) := by rw [hjt, ← hl0, filA_end]
      have eb : filA (rwsF S la t) j = rwsF S la t := by rw [hjt, ← hxl, filA_end]
      rw [ea] at ga
      rw [eb] at gb
      (repeat (refine BW.pl rfl rfl ?_))
      refine CW.e1 rfl rfl (by first | exact Or.inl rfl | exact Or.inr (tagO (by assumption) (by rfl) (by rfl))) (by first | exact Or.inl (by decide) | exact Or.inr ⟨_, rfl, by assumption⟩) rfl (B_itHas gi hT2 (by rw [hl0]; omega)) ?_
      rw [if_neg (by rw [hl0]; omega)]
      refine BW.br rfl rfl (by first | omega | decide | (constructor <;> first | omega | decide)) (fun w => ?_) (fun w => by first | (exfalso; omega) | exact absurd w (by decide))
      (iterate 2 (refine BW.pl rfl rfl ?_))
      have e5 : List.replicate 5 (none : Option Nat) = filA (mkA la G.2.2.2.1) 0 := by rw [filA_0, mkA_len]
      rw [e5] at ge
      exact marks 5 0 S2 _ rfl rfl hA2 hm2 g30 g34 g35 g31 ga g32 gb g33 ge
    | succ N ih =>
      intro j S2 lr hj hA2 hm2 g30 g34 g35 g31 ga g32 gb g33 ge gi hT2
      have hjt : j < t.length := by omega
      have ej : ((j : Nat) : Int).toNat = j := by omega
      have hin : t.getD j (0, []) ∈ t := getD_mem hjt
      obtain ⟨hxR, hxo0, r44, x440, hx44b⟩ := hL.2 _ hin
      generalize hxx : t.getD j (0, []) = x at hin hxR hxo0 x440 hx44b
      have hxo := hxo0.fr hA2 ⟨oNe rfl, LW.lin hxo0⟩
      have x44 := x440.fr hA2 ⟨⟨hxo0.old (oNe rfl), by decide⟩, LW.lin hxo0⟩
      obtain ⟨⟨y4, rfl, hy40⟩, _⟩ := hx44b
      have hy4 := hy40.fr hA2 ⟨oNe rfl, fun z => by rw [show y4 = m from z] at hy40; exact absurd (hy40.symm.trans hmS) (oNe rfl)⟩
      have hg : (lsOf la (idsOfL t)).getD j none = some (la x.1) := lsOf_get (by rw [ids_len]; exact hjt) (by
        show (idsOfL t).getD j 0 = x.1
        rw [← hxx]; exact ids_get)
      have hgr : (rwsF S la t).getD j none = some y4 := by
        unfold rwsF
        rw [List.getD_eq_getElem?_getD, List.getElem?_map]
        rw [List.getD_eq_getElem?_getD, List.getElem?_eq_getElem hjt] at hxx
        rw [List.getElem?_eq_getElem hjt]
        show S.2.2.1 44 (la t[j].1) = some y4
        have hxx : t[j] = x := hxx
        rw [hxx]; exact x440
      have hal : (filA (lsOf la (idsOfL t)) j).length = t.length := by rw [filA_len (by rw [hl0]; omega), hl0]
      have hbl : (filA (rwsF S la t) j).length = t.length := by rw [filA_len (by rw [hxl]; omega), hxl]
      have s9 := hm2.old (oNe rfl)
      have hmi : m ≠ it := fun z => hmS.old (oNe rfl) (by rw [z]; exact hizS)
      have hai : a ≠ it := ga.ne gi (oNe rfl)
      have hbi : b ≠ it := gb.ne gi (oNe rfl)
      have hei : e ≠ it := ge.ne gi (oNe rfl)
      (repeat (refine BW.pl rfl rfl ?_))
      refine CW.e1 rfl rfl (by first | exact Or.inl rfl | exact Or.inr (tagO (by assumption) (by rfl) (by rfl))) (by first | exact Or.inl (by decide) | exact Or.inr ⟨_, rfl, by assumption⟩) rfl (B_itHas gi hT2 (by rw [hl0]; omega)) ?_
      rw [if_pos (by rw [hl0]; omega)]
      refine BW.br rfl rfl (by first | omega | decide | (constructor <;> first | omega | decide)) (fun w => by first | (exfalso; omega) | exact absurd w (by decide)) (fun w => ?_)
      (repeat (first | (refine BW.pl rfl rfl ?_) | (refine CW.geti rfl rfl (by assumption) rfl rfl (by assumption) (fun _ => ?_)) | (refine CW.getr rfl rfl (by assumption) rfl rfl (by assumption) ?_)))
      refine CW.c1 rfl rfl (by first | exact Or.inl rfl | exact Or.inr (tagO (by assumption) (by rfl) (by rfl))) (by first | exact Or.inl (by decide) | exact Or.inr ⟨_, rfl, by assumption⟩) rfl (C_itNext gi hT2 (by rw [hl0]; omega) (by rw [hl0]; omega) hg) ?_
      rintro r S3 ⟨rfl, gi3, hF3⟩
      have hA3 : Fr S S3 (fun k => k = m) 140 := (hA2.tr hF3 (fun k hk z => absurd hizS (by rw [← z]; exact hk))).w (fun _ _ z => z) (Nat.le_refl _)
      have hm3 := hm2.fr hF3 ⟨oNe rfl, hmi⟩
      have h303 := g30.fr hF3 ⟨⟨s9, by decide⟩, hmi⟩
      have h343 := g34.fr hF3 ⟨⟨s9, by decide⟩, hmi⟩
      have h353 := g35.fr hF3 ⟨⟨s9, by decide⟩, hmi⟩
      have h313 := g31.fr hF3 ⟨⟨s9, by decide⟩, hmi⟩
      have ha3 := ga.fr hF3 ⟨oNe rfl, hai⟩
      have h323 := g32.fr hF3 ⟨⟨s9, by decide⟩, hmi⟩
      have hb3 := gb.fr hF3 ⟨oNe rfl, hbi⟩
      have h333 := g33.fr hF3 ⟨⟨s9, by decide⟩, hmi⟩
      have he3 := ge.fr hF3 ⟨oNe rfl, hei⟩
      have hT3 := hT2.fr hF3 ⟨oNe rfl, hT2.ne gi (oNe rfl)⟩
      have hxo3 := hxo.fr hF3 ⟨oNe rfl, hxo.ne gi (oNe rfl)⟩
      have x443 := x44.fr hF3 ⟨⟨hxo.old (oNe rfl), by decide⟩, hxo.ne gi (oNe rfl)⟩
      have hy43 := hy4.fr hF3 ⟨oNe rfl, hy4.ne gi (oNe rfl)⟩
      refine CW.castS rfl hxo3 rfl rfl rfl ?_
      refine CW.aast rfl ha3 ⟨by omega, by omega⟩ (Or.inr ⟨_, rfl, by rw [show S3.1 (la x.1) = _ from hxo3]; rfl, Or.inl (by rw [show S3.1 (la x.1) = _ from hxo3]; rfl)⟩) (fun S4 ha4 hF4 => ?_)
      rw [ej, ← hg, filA_set (by rw [hl0]; exact hjt)] at ha4
      have hA4 : Fr S S4 (fun k => k = m) 140 := (hA3.tr hF4 (fun k hk z => absurd haz (by rw [← z]; exact hk))).w (fun _ _ z => z) (Nat.le_refl _)
      have hm4 := hm3.fr hF4 ⟨oNe rfl, hma⟩
      have s93 := hm3.old (oNe rfl)
      have h304 := h303.fr hF4 ⟨⟨s93, by decide⟩, hma⟩
      have h344 := h343.fr hF4 ⟨⟨s93, by decide⟩, hma⟩
      have h354 := h353.fr hF4 ⟨⟨s93, by decide⟩, hma⟩
      have h314 := h313.fr hF4 ⟨⟨s93, by decide⟩, hma⟩
      have h324 := h323.fr hF4 ⟨⟨s93, by decide⟩, hma⟩
      have hb4 := hb3.fr hF4 ⟨oNe rfl, Ne.symm hab⟩
      have h334 := h333.fr hF4 ⟨⟨s93, by decide⟩, hma⟩
      have he4 := he3.fr hF4 ⟨oNe rfl, Ne.symm hae⟩
      have hT4 := hT3.fr hF4 ⟨oNe rfl, hT3.ne ha3 (oNe rfl)⟩
      have gi4 := gi3.fr hF4 ⟨oNe rfl, gi3.ne ha3 (oNe rfl)⟩
      have hxo4 := hxo3.fr hF4 ⟨oNe rfl, hxo3.ne ha3 (oNe rfl)⟩
      have x444 := x443.fr hF4 ⟨⟨hxo3.old (oNe rfl), by decide⟩, hxo3.ne ha3 (oNe rfl)⟩
      have hy44 := hy43.fr hF4 ⟨oNe rfl, hy43.ne ha3 (oNe rfl)⟩
      have hal4 : (filA (lsOf la (idsOfL t)) (j + 1)).length = t.length := by rw [filA_len (by rw [hl0]; omega), hl0]
      have hgj : (filA (lsOf la (idsOfL t)) (j + 1)).getD ((j : Int)).toNat none = some (la x.1) := by
        rw [ej, ← hg]
        unfold filA
        rw [List.getD_eq_getElem?_getD, List.getElem?_append_left (by rw [List.length_take]; omega), List.getElem?_take, if_pos (by omega), List.getD_eq_getElem?_getD]
      clear hg
      (repeat (first | (refine BW.pl rfl rfl ?_) | (refine CW.geti rfl rfl (by assumption) rfl rfl (by assumption) (fun _ => ?_)) | (refine CW.getr rfl rfl (by assumption) rfl rfl (by assumption) ?_)))
      refine CW.aald rfl ha4 ⟨by omega, by omega⟩ ?_
      rw [hgj]
      (repeat (first | (refine BW.pl rfl rfl ?_) | (refine CW.geti rfl rfl (by assumption) rfl rfl (by assumption) (fun _ => ?_)) | (refine CW.getr rfl rfl (by assumption) rfl rfl (by assumption) ?_)))
      refine CW.aast rfl hb4 ⟨by omega, by omega⟩ (Or.inr ⟨_, rfl, by rw [show S4.1 y4 = _ from hy44]; rfl, Or.inl (by rw [show S4.1 y4 = _ from hy44]; rfl)⟩) (fun S5 hb5 hF5 => ?_)
      rw [ej, ← hgr, filA_set (by rw [hxl]; exact hjt)] at hb5
      have hA5 : Fr S S5 (fun k => k = m) 140 := (hA4.tr hF5 (fun k hk z => absurd hbz (by rw [← z]; exact hk))).w (fun _ _ z => z) (Nat.le_refl _)
      have s94 := hm4.old (oNe rfl)
      (iterate 2 (refine BW.pl rfl rfl ?_))
      exact ih (j + 1) S5 _ (by omega) hA5 (hm4.fr hF5 ⟨oNe rfl, hmb⟩) (h304.fr hF5 ⟨⟨s94, by decide⟩, hmb⟩) (h344.fr hF5 ⟨⟨s94, by decide⟩, hmb⟩) (h354.fr hF5 ⟨⟨s94, by decide⟩, hmb⟩) (h314.fr hF5 ⟨⟨s94, by decide⟩, hmb⟩) (ha4.fr hF5 ⟨oNe rfl, hab⟩) (h324.fr hF5 ⟨⟨s94, by decide⟩, hmb⟩) hb5 (h334.fr hF5 ⟨⟨s94, by decide⟩, hmb⟩) (he4.fr hF5 ⟨oNe rfl, Ne.symm hbe⟩) (gi4.fr hF5 ⟨oNe rfl, gi4.ne hb4 (oNe rfl)⟩) (hT4.fr hF5 ⟨oNe rfl, hT4.ne hb4 (oNe rfl)⟩)
  exact lines t.length 0 S10 0 (Nat.zero_add _) (hA.w (fun _ _ z => z) (by omega)) hm h30 h34 h35 h31 ha h32 hb h33 he hit hT10
end DE
