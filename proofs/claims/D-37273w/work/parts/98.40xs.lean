-- C
set_option maxRecDepth 100000
/-! LINEORDERS: what a stream leaves alone. W: the stream's own objects; F: orders, whose fields 57 to 61 may change -/
def WoO (o : Obj) : Prop := o = oOwn 12 ∨ (∃ xs mc, o = oLl xs mc) ∨ ∃ xs cap, o = oAd xs cap
def XsC (K : Nat → Nat) (F W : Nat → Prop) (P : BS → Prop) : Prop := (∀ S S', XF K (fun _ => True) S S' → P S → P S') ∧ (∀ S S' m c o, W m → Ob S m o → WoO o → Fr1 S S' m c → P S → P S') ∧ ∀ S S' f m, F m → Ob S m (oOwn 7) → 57 ≤ f → f ≤ 61 → Pu S S' f m → P S → P S'
def XS (K : Nat → Nat) (F W : Nat → Prop) (S S' : BS) : Prop := ∀ P : BS → Prop, XsC K F W P → P S → P S'
/-- of orders: what may change is none of the state; what the stream has is none of an order -/
def XsK (K : Nat → Nat) (F W : Nat → Prop) : Prop := (∀ m, F m → KoM K m) ∧ ∀ m, W m → KoM K m ∧ ¬ F m
section XS
variable {n m q a b f y cap c pl i : Nat} {S S' S1 S2 : BS} {K : Nat → Nat} {V F W : Nat → Prop} {o : Obj} {od : SOrd0} {os : List SOrd} {og : SOrd} {ods : List SOrd0} {la : Int → Nat} {A : St} {ds : List SDeed} {tp : List Int} {sc : Nat → Option (List Int)} {r : Option Nat} {v : Int} {rows : List (List Int)} {xs ws : List (Option Nat)} {fi : Nat → List (List Int)} {j : Nat}
theorem WoO.ne (h : WoO o) : o ≠ oNil ∧ (o.1 == 1) = false ∧ (o.1 == 9) = false ∧ o ≠ oOwn 6 ∧ o ≠ oOwn 1 ∧ o ≠ oOwn 3 ∧ o ≠ oOwn 4 ∧ o ≠ oOwn 7 := by
  rcases h with rfl | ⟨xs, mc, rfl⟩ | ⟨xs, cap, rfl⟩
  · exact ⟨oNe rfl, rfl, rfl, ownNe rfl, ownNe rfl, ownNe rfl, ownNe rfl, ownNe rfl⟩
  · exact ⟨oNe rfl, rfl, rfl, oNe rfl, oNe rfl, oNe rfl, oNe rfl, oNe rfl⟩
  · exact ⟨oNe rfl, rfl, rfl, oNe rfl, oNe rfl, oNe rfl, oNe rfl, oNe rfl⟩
theorem WoO.ra (h : WoO o) (k : Nat) (xs : List (Option Nat)) : o ≠ oRa k xs := by
  rcases h with rfl | ⟨ys, mc, rfl⟩ | ⟨ys, cap, rfl⟩
  · exact oNe rfl
  · exact oNe rfl
  · exact oNe rfl
theorem XS.rf : XS K F W S S := fun _ _ h => h
theorem XS.tr (h : XS K F W S S1) (h2 : XS K F W S1 S2) : XS K F W S S2 := fun P hP hS => h2 P hP (h P hP hS)
theorem XS.xf (h : XS K F W S S1) (hX : XF K V S1 S2) : XS K F W S S2 := fun P hP hS => hP.1 _ _ (hX.mono (fun _ _ => trivial)) (h P hP hS)
theorem XS.st (h : XS K F W S S1) (hm : W m) (ho : Ob S1 m o) (hw : WoO o) (hF : Fr1 S1 S2 m c) : XS K F W S S2 := fun P hP hS => hP.2.1 _ _ m c o hm ho hw hF (h P hP hS)
theorem XS.pu (h : XS K F W S S1) (hm : F m) (ho : Ob S1 m (oOwn 7)) (hf : 57 ≤ f ∧ f ≤ 61) (hP : Pu S1 S2 f m) : XS K F W S S2 := fun P hC hS => hC.2.2 _ _ f m hm ho hf.1 hf.2 hP (h P hC hS)
theorem XS.of (hX : XF K V S S') : XS K F W S S' := XS.rf.xf hX
theorem XS.nn (h : XS K F W S S') (hm : S.1 m ≠ oNil) : S'.1 m ≠ oNil := h (fun S => S.1 m ≠ oNil) ⟨fun _ _ hX h => hX.1 m h, fun _ _ _ _ _ _ _ _ hF h => hF.1 m h, fun _ _ _ _ _ _ _ _ hP h => fun z => h ((congrFun hP.1 m).symm.trans z)⟩ hm
theorem XS.ob (h : XS K F W S S') (hm : Ob S m o) (hk : KoM K m) (hw : ¬ W m) (ho : o ≠ oNil) (h9 : (o.1 == 9) = false) : Ob S' m o := h (fun S => Ob S m o) ⟨fun _ _ hX h => (hX.ob h hk ho h9).1, fun _ _ m' _ _ hm' _ _ hF h => h.fr hF ⟨ho, fun z => hw (z ▸ hm')⟩, fun _ _ _ _ _ _ _ _ hP h => h.pu hP trivial⟩ hm
theorem XS.str (h : XS K F W S S') {s : List Int} (hm : Ob S m (oStr s)) : Ob S' m (oStr s) := h (fun S => Ob S m (oStr s)) ⟨fun _ _ hX h => hX.2.2 _ _ h, fun _ _ m' _ o' _ ho hw hF h => h.fr hF ⟨oNe rfl, fun z => by
    have z : m = m' := z
    subst z
    have e : o' = oStr s := ho.symm.trans h
    have := hw.ne.2.1
    rw [e] at this
    exact absurd (show (true : Bool) = false from this) (by decide)⟩, fun _ _ _ _ _ _ _ _ hP h => h.pu hP trivial⟩ hm
theorem XS.strB (h : XS K F W S S') {s : List Int} (hs : StrB S r s) : StrB S' r s := by
  obtain ⟨⟨y, h1, h2⟩, h3⟩ := hs
  exact ⟨⟨y, h1, h.str h2⟩, h3⟩
theorem XS.strs (h : XS K F W S S') (hs : StrsIs S xs rows) : StrsIs S' xs rows := ⟨hs.1, fun j hj => h.strB (hs.2 j hj)⟩
theorem XS.k1 (h : XS K F W S S') (hj : KInj K) (hW : XsK K F W) (hx : Ob S (K 1) (oOwn 1)) : Ob S' (K 1) (oOwn 1) := h (fun S => Ob S (K 1) (oOwn 1)) ⟨fun S S' hX h => by
    have hk : ¬ (∃ i, i ∈ kCh ∧ K 1 = K i) := fun ⟨i, hi, z⟩ => by
      have := hj 1 i (by decide) (by revert hi; unfold kCh kIx; simp; omega) z
      subst this
      revert hi; decide
    rcases hX.2.1 (K 1) (h.old (oNe rfl)) hk with ⟨e, _⟩ | ⟨us, us', e, _⟩
    · exact e.trans h
    · exact absurd (h.symm.trans e) (oNe rfl), fun _ _ m' _ _ hm' _ _ hF h => h.fr hF ⟨oNe rfl, fun z => (hW.2 m' hm').1 1 (by decide) z.symm⟩, fun _ _ _ _ _ _ _ _ hP h => h.pu hP trivial⟩ hx
/-! orders -/
theorem Or0.puF (h : Or0 S F False m od) (hP : Pu S S' f n) (hn : Ob S n (oOwn 7)) (hf : 57 ≤ f ∧ f ≤ 61) : Or0 S' F False m od := by
  have fi : ∀ {g : Nat} {v : Int} {x : Nat}, Fi S g x v → (g < 57 ∨ 61 < g) → Fi S' g x v := fun h z => h.pu hP (Or.inl (by omega))
  have fe : ∀ {g x : Nat} {v : Option Nat}, Fe S g x v → (g < 57 ∨ 61 < g) → Fe S' g x v := fun h z => h.pu hP (Or.inl (by omega))
  have part : ∀ {r : Option Nat} {p : SPart}, PartF S F r p → PartF S' F r p := fun h => by
    obtain ⟨m, x, h1, h2, h3, h4, h5, h6, h7, h8⟩ := h
    exact ⟨m, x, h1, h2, h3.pu hP trivial, fi h4 (by decide), fi h5 (by decide), fe h6 (by decide), h7.pu hP trivial, fi h8 (by decide)⟩
  have pat : ∀ {p : Nat} {pt : SPat}, PatIs S F p pt → PatIs S' F p pt := fun h => by
    obtain ⟨q, cap, xs, u, w, us, ws, hf9, h1, h2, h3, h4, h5, h6, h7, h8, ⟨h9, h10⟩, h11, h12⟩ := h
    exact ⟨q, cap, xs, u, w, us, ws, hf9, h1.pu hP trivial, fe h2 (by decide), h3.pu hP trivial, ⟨h4.1, fun j hj => part (h4.2 j hj)⟩, fi h5 (by decide), fi h6 (by decide), fe h7 (by decide), fe h8 (by decide), ⟨h9.pu hP trivial, h10⟩, h11.pu hP trivial, h12⟩
  have adr : ∀ {x : Nat} {v : SAdr}, AdrIs S F x v → AdrIs S' F x v := fun h => by
    obtain ⟨f, h1, h2, h3, h4, h5, r, h6, h7⟩ := h
    exact ⟨f, h1.pu hP trivial, fi h2 (by decide), fi h3 (by decide), fi h4 (by decide), fi h5 (by decide), r, fe h6 (by decide), fun z => (h7 z).imp (fun p hp => ⟨hp.1, pat hp.2⟩)⟩
  have ado : ∀ {r : Option Nat} {v : Option SAdr}, AdO S F r v → AdO S' F r v := fun {r v} h => by
    cases v with
    | none => exact h
    | some v => exact Exists.imp (fun a ha => ⟨ha.1, adr ha.2⟩) h
  obtain ⟨f, h1, h2, ⟨r3, h3, h4⟩, ⟨r5, h5, h6⟩, h7, ⟨q, h8, h9, ⟨g1, ⟨xs, cap, g2, g3⟩, ⟨s3, g4, g5⟩, ⟨s4, g6, g7⟩, ⟨s5, g8, g9⟩, ⟨s6, g10, g11⟩, g12⟩⟩, h11⟩ := h
  exact ⟨f, h1.pu hP trivial, fi h2 (by decide), ⟨r3, fe h3 (by decide), ado h4⟩, ⟨r5, fe h5 (by decide), ado h6⟩, fi h7 (by decide), ⟨q, fe h8 (by decide), h9, ⟨fi g1 (by decide), ⟨xs, cap, g2.pu hP trivial, g3.pu hP trivial⟩, ⟨s3, fe g4 (by decide), ado g5⟩, ⟨s4, fe g6 (by decide), fun y => (g7 y).imp (fun p hp => ⟨hp.1, pat hp.2⟩)⟩, ⟨s5, fe g8 (by decide), fun y => (g9 y).pu hP trivial⟩, ⟨s6, fe g10 (by decide), fun y => (g11 y).pu hP trivial⟩, fi g12 (by decide)⟩⟩, fun z => z.elim⟩
theorem Or1.puF (h : Or1 S F False m od) (hP : Pu S S' f n) (hn : Ob S n (oOwn 7)) (hf : 57 ≤ f ∧ f ≤ 61) : Or1 S' F False m od := ⟨h.1.puF hP hn hf, h.2.1.pu hP (Or.inl (by omega)), h.2.2⟩
theorem OrIn.puF (h : OrIn S F False q ods) (hP : Pu S S' f n) (hn : Ob S n (oOwn 7)) (hf : 57 ≤ f ∧ f ≤ 61) : OrIn S' F False q ods := by
  obtain ⟨g, xs, cap, h1, h2⟩ := h
  exact ⟨g, xs, cap, h1.pu hP trivial, h2.imp (fun _ _ hk => hk.puF hP hn hf)⟩
theorem OrdIs.puF (h : OrdIs S F False m og) (hP : Pu S S' f n) (hn : Ob S n (oOwn 7)) (hf : 57 ≤ f ∧ f ≤ 61) : OrdIs S' F False m og := by
  obtain ⟨h1, r, h2, h3⟩ := h
  refine ⟨h1.puF hP hn hf, r, h2.pu hP (Or.inl (by omega)), h3.imp (fun y => ⟨y.1, ?_⟩) id⟩
  obtain ⟨y1, q, y2, y3⟩ := y
  exact ⟨q, y2, y3.puF hP hn hf⟩
theorem OrdD.puF (h : OrdD S F False xs os) (hP : Pu S S' f n) (hn : Ob S n (oOwn 7)) (hf : 57 ≤ f ∧ f ≤ 61) : OrdD S' F False xs os := by
  obtain ⟨h1, G, h2, h3, h4⟩ := h
  exact ⟨h1, G, fun j hj => by
    obtain ⟨k, g1, g2⟩ := h2 j hj
    exact ⟨k, g1, g2.puF hP hn hf⟩, h3, h4⟩
theorem Av.st (hW : XsK K F W) (hm : W m) : Av F (fun k => k = m) := fun k z => by rw [z]; exact (hW.2 m hm).2
theorem Or0.z {z : Prop} (h : Or0 S F z m od) : Or0 S F False m od := by
  obtain ⟨f, h1, h2, h3, h5, h7, h8, h11⟩ := h
  exact ⟨f, h1, h2, h3, h5, h7, h8, fun z => z.elim⟩
theorem Or1.z {z : Prop} (h : Or1 S F z m od) : Or1 S F False m od := ⟨h.1.z, h.2⟩
theorem OrIn.z {z : Prop} (h : OrIn S F z q ods) : OrIn S F False q ods := by
  obtain ⟨g, xs, cap, h1, h2⟩ := h
  exact ⟨g, xs, cap, h1, h2.imp (fun _ _ hk => hk.z)⟩
theorem OrdIs.z {z : Prop} (h : OrdIs S F z m og) : OrdIs S F False m og := by
  obtain ⟨h1, r, h2, h3⟩ := h
  exact ⟨h1.z, r, h2, h3.imp (fun y => ⟨y.1, y.2.imp (fun q hq => ⟨hq.1, hq.2.z⟩)⟩) id⟩
theorem Or0.xS (h : Or0 S F False m od) (hX : XS K F W S S') (hW : XsK K F W) : Or0 S' F False m od := hX (fun S => Or0 S F False m od) ⟨fun _ _ hX h => h.xf hX hW.1, fun _ _ m' _ o' hm' ho hw hF h => h.fr hF ⟨NoS.one ho hw.ne.2.1, Av.st hW hm'⟩, fun _ _ f n _ hn h1 h2 hP h => h.puF hP hn ⟨h1, h2⟩⟩ h
theorem Or1.xS (h : Or1 S F False m od) (hX : XS K F W S S') (hW : XsK K F W) : Or1 S' F False m od := hX (fun S => Or1 S F False m od) ⟨fun _ _ hX h => h.xf hX hW.1, fun _ _ m' _ o' hm' ho hw hF h => h.fr hF ⟨NoS.one ho hw.ne.2.1, Av.st hW hm'⟩, fun _ _ f n _ hn h1 h2 hP h => h.puF hP hn ⟨h1, h2⟩⟩ h
theorem OrIn.xS (h : OrIn S F False m ods) (hX : XS K F W S S') (hW : XsK K F W) : OrIn S' F False m ods := hX (fun S => OrIn S F False m ods) ⟨fun _ _ hX h => h.xf hX hW.1, fun _ _ m' _ o' hm' ho hw hF h => h.fr hF ⟨NoS.one ho hw.ne.2.1, Av.st hW hm'⟩, fun _ _ f n _ hn h1 h2 hP h => h.puF hP hn ⟨h1, h2⟩⟩ h
theorem OrdIs.xS (h : OrdIs S F False m og) (hX : XS K F W S S') (hW : XsK K F W) : OrdIs S' F False m og := hX (fun S => OrdIs S F False m og) ⟨fun _ _ hX h => h.xf hX hW.1, fun _ _ m' _ o' hm' ho hw hF h => h.fr hF ⟨NoS.one ho hw.ne.2.1, Av.st hW hm'⟩, fun _ _ f n _ hn h1 h2 hP h => h.puF hP hn ⟨h1, h2⟩⟩ h
/-- an order's field that a stream doesn't change -/
theorem XS.fe7 (h : XS K F W S S') (hW : XsK K F W) (hm : Ob S m (oOwn 7)) (hF : F m) (hv : Fe S f m r) (hf : f < 57 ∧ f ≠ 44) : Fe S' f m r := (h (fun S => Ob S m (oOwn 7) ∧ Fe S f m r) ⟨fun _ _ hX h => ⟨(hX.ob h.1 (hW.1 m hF) (oNe rfl) rfl).1, hX.fe h.1 (hW.1 m hF) (oNe rfl) rfl h.2 ⟨by omega, by omega, hf.2⟩⟩, fun _ _ m' _ o' hm' ho hw hFr h => ⟨h.1.fr hFr ⟨oNe rfl, fun z => (hW.2 m' hm').2 (z ▸ hF)⟩, h.2.fr hFr ⟨⟨h.1.old (oNe rfl), by omega⟩, fun z => (hW.2 m' hm').2 (z ▸ hF)⟩⟩, fun _ _ f n _ hn h1 h2 hP h => ⟨h.1.pu hP trivial, h.2.pu hP (Or.inl (by omega))⟩⟩ ⟨hm, hv⟩).2
/-! what was -/
theorem FilA.frO (h : FilA S K fi ws j) (hF : Fr S S' (fun k => k = y) c) (ho : Ob S y o) (h2 : ∀ xs, o ≠ oRa 105 xs) (hn : (o.1 == 1) = false) : FilA S' K fi ws j := ⟨h.1, fun k hk => by
  obtain ⟨w, xs, g1, g2, g3, g4⟩ := h.2 k hk
  exact ⟨w, xs, g1, g2, g3.fr hF ⟨oNe rfl, fun z => h2 _ (ho.symm.trans (z ▸ g3))⟩, g4.fr hF (NoS.one ho hn)⟩⟩
theorem AhIs.frO (h : AhIs S K la m pl A) (hF : Fr S S' (fun k => k = y) c) (ho : Ob S y o) (h1 : o ≠ oOwn 3 ∧ o ≠ oOwn 4) (h2 : ∀ k xs, o ≠ oRa k xs) (hn : (o.1 == 1) = false) : AhIs S' K la m pl A := by
  obtain ⟨k, g1, ⟨dm, g2, g3⟩, ⟨b, xs, kb, g4, g5, g6⟩, ⟨w, ws, kw, g7, g8, g9⟩, g10, g11, g12, g13⟩ := h
  have s := g1.old (oNe rfl)
  have hm : m ≠ y := fun z => h1.1 (ho.symm.trans (z ▸ g1))
  exact ⟨k, g1.fr hF ⟨oNe rfl, hm⟩, ⟨dm, g2.fr hF ⟨⟨s, by decide⟩, hm⟩, g3.frO hF ho h1.2 (h2 105) (h2 106) hn⟩, ⟨b, xs, kb, g4.fr hF ⟨⟨s, by decide⟩, hm⟩, g5.fr hF ⟨oNe rfl, fun z => h2 _ _ (ho.symm.trans (z ▸ g5))⟩, g6.fr hF (NoS.one ho hn)⟩, ⟨w, ws, kw, g7.fr hF ⟨⟨s, by decide⟩, hm⟩, g8.fr hF ⟨oNe rfl, fun z => h2 _ _ (ho.symm.trans (z ▸ g8))⟩, g9.frO hF ho (h2 105) hn⟩, g10.fr hF ⟨⟨s, by decide⟩, hm⟩, g11.fr hF ⟨⟨s, by decide⟩, hm⟩, g12.fr hF ⟨⟨s, by decide⟩, hm⟩, g13.fr hF ⟨⟨s, by decide⟩, hm⟩⟩
theorem AhIs.xS (h : AhIs S K la m pl A) (hX : XS K F W S S') : AhIs S' K la m pl A := hX (fun S => AhIs S K la m pl A) ⟨fun _ _ hX h => h.xf hX, fun _ _ m' _ o' hm' ho hw hF h => h.frO hF ho ⟨hw.ne.2.2.2.2.2.1, hw.ne.2.2.2.2.2.2.1⟩ hw.ra hw.ne.2.1, fun _ _ f n _ hn _ _ hP h => h.frO hP.fr hn ⟨ownNe rfl, ownNe rfl⟩ (fun _ _ => oNe rfl) rfl⟩ h
theorem KInj.nch (hj : KInj K) (hi : i ∈ [0, 1, 2, 10]) : ¬ (∃ j, j ∈ kCh ∧ K i = K j) := fun ⟨j, hj9, z⟩ => by
  have := hj i j (by revert hi; unfold kIx; simp; omega) (by revert hj9; unfold kCh kIx; simp; omega) z
  subst this
  revert hi hj9
  unfold kCh
  simp
  omega
/-- deeds, tape and scripts, with the object they hang on -/
def RdI (S : BS) (K : Nat → Nat) (la : Int → Nat) (ds : List SDeed) (cap : Nat) (tp : List Int) (sc : Nat → Option (List Int)) (cl re : Nat) : Prop := DsI S K la ds cap ∧ RsI S K tp sc ∧ Ob S (K 1) (oOwn 1) ∧ Fi S 11 (K 1) cl ∧ Fi S 12 (K 1) re
theorem RdI.xS {cl re : Nat} (h : RdI S K la ds cap tp sc cl re) (hX : XS K F W S S') (hW : XsK K F W) (hj : KInj K) : RdI S' K la ds cap tp sc cl re := by
  have fr : ∀ {S S' : BS} {m c : Nat} {o : Obj}, Ob S m o → KoM K m → (o.1 == 1) = false → o ≠ oOwn 4 → (∀ k xs, o ≠ oRa k xs) → Fr1 S S' m c → RdI S K la ds cap tp sc cl re → RdI S' K la ds cap tp sc cl re := by
    rintro S S' m c o ho hk h1 h4 hr hF ⟨⟨xs, a1, a2, a3⟩, ⟨b0, ⟨us, b1, b2, b3, b4, b5⟩, ys, b6, b7, b8⟩, hx, f11, f12⟩
    have e := hx.old (oNe rfl)
    have s : ∀ i, i ∈ kIx → Sep S (fun k => k = m) (K i) := fun i hi z => hk i hi z.symm
    exact ⟨⟨xs, a1.fr hF ⟨oNe rfl, s 10 (by decide)⟩, a2, fun j hj => by
      obtain ⟨m', g1, g2⟩ := a3 j hj
      exact ⟨m', g1, g2.frO hF ho h4 (hr 105) (hr 106) h1⟩⟩, ⟨b0.fr hF ⟨⟨e, by decide⟩, s 1 (by decide)⟩, ⟨us, b1.fr hF ⟨oNe rfl, s 0 (by decide)⟩, b2, b3, b4, b5.fr hF ⟨⟨e, by decide⟩, s 1 (by decide)⟩⟩, ys, b6.fr hF ⟨oNe rfl, s 2 (by decide)⟩, b7, fun k hk => ⟨(b8 k hk).1, fun s hs => ((b8 k hk).2 s hs).fr hF (NoS.one ho h1)⟩⟩, hx.fr hF ⟨oNe rfl, s 1 (by decide)⟩, f11.fr hF ⟨⟨e, by decide⟩, s 1 (by decide)⟩, f12.fr hF ⟨⟨e, by decide⟩, s 1 (by decide)⟩⟩
  refine hX (fun S => RdI S K la ds cap tp sc cl re) ⟨fun S S' hX h => ?_, fun _ _ m' _ o' hm' ho hw hF h => fr ho (hW.2 m' hm').1 hw.ne.2.1 hw.ne.2.2.2.2.2.2.1 hw.ra hF h, fun _ _ f n hn ho _ _ hP h => fr ho (hW.1 n hn) rfl (ownNe rfl) (fun _ _ => oNe rfl) hP.fr h⟩ h
  obtain ⟨⟨xs, a1, a2, a3⟩, ⟨b0, ⟨us, b1, b2, b3, b4, b5⟩, ys, b6, b7, b8⟩, hx, f11, f12⟩ := h
  rcases hX.2.1 (K 1) (hx.old (oNe rfl)) (hj.nch (by decide)) with ⟨e, g⟩ | ⟨us', us'', e, _⟩
  rotate_left
  · exact absurd (hx.symm.trans e) (oNe rfl)
  have gi : ∀ {f : Nat}, f < 91 → ¬ (71 ≤ f ∧ f ≤ 73) → f ∉ [4, 5, 14, 16, 17] → f ≠ 44 → S'.2.1 f (K 1) = S.2.1 f (K 1) ∧ S'.2.2.1 f (K 1) = S.2.2.1 f (K 1) := fun h1 h2 h3 h4 => g _ h1 h2 (fun z => h3 z.2) (fun z => h4 z.1)
  have ob : ∀ {i : Nat} {o : Obj}, i ∈ [0, 2, 10] → Ob S (K i) o → o ≠ oNil → (∀ us, o = oIa us → us.length ≠ 3) → Ob S' (K i) o := fun {i o} hi ho hn h3 => by
    rcases hX.2.1 (K i) (ho.old hn) (hj.nch (by revert hi; simp; omega)) with ⟨e, _⟩ | ⟨us', us'', e, _, l, _⟩
    · exact e.trans ho
    · exact absurd l (h3 us' (ho.symm.trans e))
  exact ⟨⟨xs, ob (by decide) a1 (oNe rfl) (fun us z => absurd z (oNe rfl)), a2, fun j hj => by
    obtain ⟨m', g1, g2⟩ := a3 j hj
    exact ⟨m', g1, g2.xf hX⟩⟩, ⟨(gi (by decide) (by decide) (by decide) (by decide)).2.trans b0, ⟨us, ob (by decide) b1 (oNe rfl) (fun us' z => by
      have : us = us' := congrArg (fun o : Obj => o.2.1) z
      rw [← this, b2]; decide), b2, b3, b4, (gi (by decide) (by decide) (by decide) (by decide)).1.trans b5⟩, ys, ob (by decide) b6 (oNe rfl) (fun us z => absurd z (oNe rfl)), b7, fun k hk => ⟨(b8 k hk).1, fun s hs => hX.strB ((b8 k hk).2 s hs)⟩⟩, e.trans hx, (gi (by decide) (by decide) (by decide) (by decide)).1.trans f11, (gi (by decide) (by decide) (by decide) (by decide)).1.trans f12⟩
end XS
