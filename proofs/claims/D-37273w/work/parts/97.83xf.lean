-- C
set_option maxRecDepth 100000
/-! orders and patterns are kept by what acts do -/
section XO
variable {S S' S0 S1 S2 : BS} {K : Nat → Nat} {V W F F' : Nat → Prop} {c n m q i a f p : Nat} {o : Obj} {v : Int} {r : Option Nat} {s : List Int} {xs : List (Option Nat)} {rows : List (List Int)} {la : Int → Nat} {ids : List Int} {G : BG} {B : Nat} {t : List SLine} {pp : SPart} {ps : List SPart} {pt : SPat} {ad : SAdr} {ado : Option SAdr} {z : Prop} {ac : Int} {bh : SBh} {od : SOrd0} {ods : List SOrd0} {og : SOrd} {os : List SOrd} {us : List Int}
theorem XF.fi (h : XF K V S S') (hm : Ob S m o) (hk : KoM K m) (ho : o ≠ oNil) (h9 : (o.1 == 9) = false) (hf : Fi S f m v) (hs : f < 91 ∧ ¬ (71 ≤ f ∧ f ≤ 73) ∧ f ≠ 44) : Fi S' f m v := ((h.ob hm hk ho h9).2 f hs.1 hs.2.1 (fun z => hs.2.2 z.1)).1.trans hf
theorem XF.fe (h : XF K V S S') (hm : Ob S m o) (hk : KoM K m) (ho : o ≠ oNil) (h9 : (o.1 == 9) = false) (hf : Fe S f m r) (hs : f < 91 ∧ ¬ (71 ≤ f ∧ f ≤ 73) ∧ f ≠ 44) : Fe S' f m r := ((h.ob hm hk ho h9).2 f hs.1 hs.2.1 (fun z => hs.2.2 z.1)).2.trans hf
theorem XF.ia (h : XF K V S S') (hm : Ob S m (oIa us)) (hl : us.length = 3) (hk : KoM K m) : ∃ us', Ob S' m (oIa us') ∧ us'.length = 3 := by
  have hm1 : S.1 m = oIa us := hm
  rcases h.2.1 m (hm.old (oNe rfl)) (fun ⟨i, hi, z⟩ => hk i (by revert hi; unfold kCh kIx; simp; omega) z) with ⟨a, _⟩ | ⟨vs, vs', _, b, _, d⟩
  · exact ⟨us, a.trans hm, hl⟩
  · exact ⟨vs', b, d⟩
theorem StrIs.xf (h : StrIs S r s) (hX : XF K V S S') : StrIs S' r s := hX.str h
theorem StrsIs.xf (h : StrsIs S xs rows) (hX : XF K V S S') : StrsIs S' xs rows := hX.strs h
theorem PartF.xf (h : PartF S F r pp) (hX : XF K V S S') (hK : ∀ m, F m → KoM K m) : PartF S' F r pp := by
  obtain ⟨m, x, h1, h2, h3, h4, h5, h6, h7, h8⟩ := h
  have k := hK m h2
  exact ⟨m, x, h1, h2, (hX.ob h3 k (oNe rfl) rfl).1, hX.fi h3 k (oNe rfl) rfl h4 (by decide), hX.fi h3 k (oNe rfl) rfl h5 (by decide), hX.fe h3 k (oNe rfl) rfl h6 (by decide), hX.str h7, hX.fi h3 k (oNe rfl) rfl h8 (by decide)⟩
theorem PtsE.xf (h : PtsE S F xs ps) (hX : XF K V S S') (hK : ∀ m, F m → KoM K m) : PtsE S' F xs ps := ⟨h.1, fun j hj => (h.2 j hj).xf hX hK⟩
theorem PatIs.xf (h : PatIs S F p pt) (hX : XF K V S S') (hK : ∀ m, F m → KoM K m) : PatIs S' F p pt := by
  obtain ⟨q, cap, xs, u, w, us, ws, ⟨f1, f2, f3, f4, f5⟩, h1, h2, h3, h4, h5, h6, h7, h8, ⟨h9, h10⟩, h11, h12⟩ := h
  have k := hK p f1
  obtain ⟨us', g1, g2⟩ := hX.ia h9 h10 (hK u f3)
  obtain ⟨ws', g3, g4⟩ := hX.ia h11 h12 (hK w f4)
  exact ⟨q, cap, xs, u, w, us', ws', ⟨f1, f2, f3, f4, f5⟩, (hX.ob h1 k (oNe rfl) rfl).1, hX.fe h1 k (oNe rfl) rfl h2 (by decide), (hX.ob h3 (hK q f2) (oNe rfl) rfl).1, h4.xf hX hK, hX.fi h1 k (oNe rfl) rfl h5 (by decide), hX.fi h1 k (oNe rfl) rfl h6 (by decide), hX.fe h1 k (oNe rfl) rfl h7 (by decide), hX.fe h1 k (oNe rfl) rfl h8 (by decide), ⟨g1, g2⟩, g3, g4⟩
theorem AdrIs.xf (h : AdrIs S F m ad) (hX : XF K V S S') (hK : ∀ m, F m → KoM K m) : AdrIs S' F m ad := by
  obtain ⟨f, h1, h2, h3, h4, h5, r, h6, h7⟩ := h
  have k := hK m f
  exact ⟨f, (hX.ob h1 k (oNe rfl) rfl).1, hX.fi h1 k (oNe rfl) rfl h2 (by decide), hX.fi h1 k (oNe rfl) rfl h3 (by decide), hX.fi h1 k (oNe rfl) rfl h4 (by decide), hX.fi h1 k (oNe rfl) rfl h5 (by decide), r, hX.fe h1 k (oNe rfl) rfl h6 (by decide), fun z => (h7 z).imp (fun p hp => ⟨hp.1, hp.2.xf hX hK⟩)⟩
theorem AdO.xf (h : AdO S F r ado) (hX : XF K V S S') (hK : ∀ m, F m → KoM K m) : AdO S' F r ado := by
  cases ado with
  | none => exact h
  | some v => exact Exists.imp (fun a ha => ⟨ha.1, ha.2.xf hX hK⟩) h
theorem BhIs.xf (h : BhIs S F m q ac bh) (hX : XF K V S S') (hm : Ob S m (oOwn 7)) (km : KoM K m) (kq : KoM K q) (hK : ∀ m, F m → KoM K m) : BhIs S' F m q ac bh := by
  obtain ⟨h1, ⟨xs, cap, h2, h3⟩, ⟨r3, h4, h5⟩, ⟨r4, h6, h7⟩, ⟨r5, h8, h9⟩, ⟨r6, h10, h11⟩, h12⟩ := h
  have fi : ∀ {f : Nat} {v : Int}, Fi S f m v → (f < 91 ∧ ¬ (71 ≤ f ∧ f ≤ 73) ∧ f ≠ 44) → Fi S' f m v := fun a b => hX.fi hm km (oNe rfl) rfl a b
  have fe : ∀ {f : Nat} {v : Option Nat}, Fe S f m v → (f < 91 ∧ ¬ (71 ≤ f ∧ f ≤ 73) ∧ f ≠ 44) → Fe S' f m v := fun a b => hX.fe hm km (oNe rfl) rfl a b
  exact ⟨fi h1 (by decide), ⟨xs, cap, (hX.ob h2 kq (oNe rfl) rfl).1, hX.strs h3⟩, ⟨r3, fe h4 (by decide), h5.xf hX hK⟩, ⟨r4, fe h6 (by decide), fun y => (h7 y).imp (fun p hp => ⟨hp.1, hp.2.xf hX hK⟩)⟩, ⟨r5, fe h8 (by decide), fun y => hX.str (h9 y)⟩, ⟨r6, fe h10 (by decide), fun y => hX.str (h11 y)⟩, fi h12 (by decide)⟩
theorem Or0.xf (h : Or0 S F z m od) (hX : XF K V S S') (hK : ∀ m, F m → KoM K m) : Or0 S' F z m od := by
  obtain ⟨f, h1, h2, ⟨r3, h3, h4⟩, ⟨r5, h5, h6⟩, h7, ⟨q, h8, h9, h10⟩, h11⟩ := h
  have k := hK m f
  exact ⟨f, (hX.ob h1 k (oNe rfl) rfl).1, hX.fi h1 k (oNe rfl) rfl h2 (by decide), ⟨r3, hX.fe h1 k (oNe rfl) rfl h3 (by decide), h4.xf hX hK⟩, ⟨r5, hX.fe h1 k (oNe rfl) rfl h5 (by decide), h6.xf hX hK⟩, hX.fi h1 k (oNe rfl) rfl h7 (by decide), ⟨q, hX.fe h1 k (oNe rfl) rfl h8 (by decide), h9, h10.xf hX h1 k (hK q h9) hK⟩, fun y f1 y1 y2 => hX.fi h1 k (oNe rfl) rfl (h11 y f1 y1 y2) ⟨by omega, by omega, by omega⟩⟩
theorem Or1.xf (h : Or1 S F z m od) (hX : XF K V S S') (hK : ∀ m, F m → KoM K m) : Or1 S' F z m od := ⟨h.1.xf hX hK, hX.fe h.1.2.1 (hK m h.1.1) (oNe rfl) rfl h.2.1 (by decide), h.2.2⟩
theorem OrEls.xf (h : OrEls S F z xs ods) (hX : XF K V S S') (hK : ∀ m, F m → KoM K m) : OrEls S' F z xs ods := h.imp (fun _ _ hk => hk.xf hX hK)
theorem OrIn.xf (h : OrIn S F z q ods) (hX : XF K V S S') (hK : ∀ m, F m → KoM K m) : OrIn S' F z q ods := by
  obtain ⟨f, xs, cap, h1, h2⟩ := h
  exact ⟨f, xs, cap, (hX.ob h1 (hK q f) (oNe rfl) rfl).1, h2.imp (fun k v hk => hk.xf hX hK)⟩
theorem OrdIs.xf (h : OrdIs S F z m og) (hX : XF K V S S') (hK : ∀ m, F m → KoM K m) : OrdIs S' F z m og := by
  obtain ⟨h1, r, h2, h3⟩ := h
  refine ⟨h1.xf hX hK, r, hX.fe h1.2.1 (hK m h1.1) (oNe rfl) rfl h2 (by decide), h3.imp (fun y => ⟨y.1, ?_⟩) id⟩
  obtain ⟨y1, q, y2, y3⟩ := y
  exact ⟨q, y2, y3.xf hX hK⟩
theorem OrdEls.xf (h : OrdEls S F z xs os) (hX : XF K V S S') (hK : ∀ m, F m → KoM K m) : OrdEls S' F z xs os := h.imp (fun _ _ hk => hk.xf hX hK)
theorem OrsIs.xf (h : OrsIs S F z q os) (hX : XF K V S S') (hK : ∀ m, F m → KoM K m) : OrsIs S' F z q os := by
  obtain ⟨f, xs, cap, h1, h2⟩ := h
  exact ⟨f, xs, cap, (hX.ob h1 (hK q f) (oNe rfl) rfl).1, h2.xf hX hK⟩
theorem LB.puN (h : LB S K la ids n G B) (hP : Pu S S' a m) (hk : KoM K m) (hm : Ob S m o) (h6 : o ≠ oOwn 6) : LB S' K la ids n G B := h.puL hP (hk 1 (by decide)) (Or.inr (fun z => h6 (hm.symm.trans z)))
theorem RowsI.puN {nn : Int} (h : RowsI S la nn t) (hP : Pu S S' a m) (_ : KoM K m) (hm : Ob S m o) (h6 : o ≠ oOwn 6) : RowsI S' la nn t := fun q hq => by
  obtain ⟨h1, h2, r, h3, h4⟩ := h q hq
  exact ⟨h1, h2.pu hP trivial, r, h3.pu hP (Or.inr (fun z => h6 (hm.symm.trans (z ▸ h2)))), h4.pu hP trivial⟩
theorem LO.puN {A : St} (h : LO S K la A B) (hP : Pu S S' a m) (hk : KoM K m) (hm : Ob S m o) (h6 : o ≠ oOwn 6) : LO S' K la A B := ⟨h.1.puN hP hk hm h6, h.2.puN hP hk hm h6⟩
theorem LO.ko {A : St} (h : LO S K la A B) (hm : S.1 m = oNil) : KoM K m := h.1.ko hm
end XO
section XG
variable {d i a n : Nat} {b1 : Int} {M : GMeth} {ls : GL} {st : List GV} {S : BS} {Q : GO → BS → Prop} {o : Obj} {K : Nat → Nat} {la : Int → Nat} {ids : List Int} {p : Nat} {G : BG} {B : Nat}
theorem BW.big (hn : Ob S n o) (ho : (o.1 == 0) = false) (h1 : (o.1 == 1) = false) (kk : 1000 ≤ n → BW d M i ls st S Q) : BW d M i ls st S Q := by
  obtain ⟨H, fi, fr, t⟩ := S
  rintro g ⟨ρ, ν, hR⟩
  exact kk (hR.obj hn ho h1).2.2.2 g ⟨ρ, ν, hR⟩
theorem lsOf_get {k : Nat} {x : Int} (hk : k < ids.length) (hx : ids.getD k 0 = x) : (lsOf la ids).getD k none = some (la x) := by
  unfold lsOf
  rw [List.getD_eq_getElem?_getD, List.getElem?_map, List.getElem?_eq_getElem hk]
  rw [List.getD_eq_getElem?_getD, List.getElem?_eq_getElem hk] at hx
  show some (la ids[k]) = some (la x)
  rw [← hx]; rfl
theorem lsOf_len : (lsOf la ids).length = ids.length := by unfold lsOf; rw [List.length_map]
end XG
