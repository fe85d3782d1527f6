-- C
set_option maxRecDepth 100000
/-! the frame of runs that count steps: XF, and field 13 of the object -/
section XG
variable {n m q B a f : Nat} {S S' S1 S2 : BS} {K : Nat → Nat} {V V' F : Nat → Prop} {zz : Prop} {od : SOrd0} {v : Int}
def XG (K : Nat → Nat) (V : Nat → Prop) (S S' : BS) : Prop := ∃ Sx, XF K V S Sx ∧ Pu Sx S' 13 (K 1)
theorem XG.of (h : XF K V S S') : XG K V S S' := ⟨S', h, rfl, rfl, fun _ _ _ => ⟨rfl, rfl⟩⟩
theorem XG.pu (h : XG K V S S1) (hP : Pu S1 S2 13 (K 1)) : XG K V S S2 := by
  obtain ⟨Sx, h1, h2⟩ := h
  exact ⟨Sx, h1, hP.1.trans h2.1, hP.2.1.trans h2.2.1, fun F m hn => ⟨(hP.2.2 F m hn).1.trans (h2.2.2 F m hn).1, (hP.2.2 F m hn).2.trans (h2.2.2 F m hn).2⟩⟩
theorem XG.xf (h : XG K V S S1) (h2 : XF K V S1 S2) : XG K V S S2 := by
  obtain ⟨Sx, hX, hP⟩ := h
  have e1 : S1.1 = Sx.1 := hP.1
  refine ⟨(S2.1, fun F m => if F = 13 ∧ m = K 1 then Sx.2.1 F m else S2.2.1 F m, fun F m => if F = 13 ∧ m = K 1 then Sx.2.2.1 F m else S2.2.2.1 F m, S2.2.2.2), hX.tr ⟨fun m hm => h2.1 m (by rw [e1]; exact hm), fun m hm hk => ?_, fun m s hs => h2.2.2 m s (by show S1.1 m = _; rw [e1]; exact hs)⟩, rfl, rfl, fun F m hn => ?_⟩
  · rcases h2.2.1 m (by rw [e1]; exact hm) hk with ⟨a1, a2⟩ | ⟨us, us', b1, b2, b3⟩
    · refine Or.inl ⟨a1.trans (congrFun e1 m), fun F h1 h3 h4 h5 => ?_⟩
      by_cases z : F = 13 ∧ m = K 1
      · show (if F = 13 ∧ m = K 1 then _ else _) = _ ∧ (if F = 13 ∧ m = K 1 then _ else _) = _
        rw [if_pos z, if_pos z]
        exact ⟨rfl, rfl⟩
      · show (if F = 13 ∧ m = K 1 then _ else _) = _ ∧ (if F = 13 ∧ m = K 1 then _ else _) = _
        rw [if_neg z, if_neg z]
        have g1 := a2 F h1 h3 h4 h5
        have g2 := hP.2.2 F m (by
          by_cases y : F = 13
          · exact Or.inr (fun w => z ⟨y, w⟩)
          · exact Or.inl y)
        exact ⟨g1.1.trans g2.1, g1.2.trans g2.2⟩
    · exact Or.inr ⟨us, us', (congrFun e1 m).symm.trans b1, b2, b3⟩
  · have z : ¬ (F = 13 ∧ m = K 1) := fun w => hn.elim (fun y => y w.1) (fun y => y w.2)
    show S2.2.1 F m = (if F = 13 ∧ m = K 1 then _ else _) ∧ S2.2.2.1 F m = (if F = 13 ∧ m = K 1 then _ else _)
    rw [if_neg z, if_neg z]
    exact ⟨rfl, rfl⟩
theorem XG.tr (h : XG K V S S1) (h2 : XG K V S1 S2) : XG K V S S2 := by
  obtain ⟨Sy, hY, hP⟩ := h2
  exact (h.xf hY).pu hP
theorem XG.mono (h : XG K V S S') (hV : ∀ m, V m → V' m) : XG K V' S S' := by
  obtain ⟨Sx, h1, h2⟩ := h
  exact ⟨Sx, h1.mono hV, h2⟩
theorem XG.rf : XG K V S S := XG.of XF.rf
/-- steps are kept by what acts do -/
theorem XF.f13 {la : Int → Nat} {A : St} (h : XF K V S S') (hL : LO S K la A B) (h13 : Fi S 13 (K 1) v) : Fi S' 13 (K 1) v := by
  have hx := hL.1.obx
  have hk : ¬ (∃ i, i ∈ kCh ∧ K 1 = K i) := fun ⟨i, hi, z⟩ => (hL.1.wk hi).2.1 z.symm
  rcases h.2.1 (K 1) (hx.old (oNe rfl)) hk with ⟨_, g⟩ | ⟨us, us', g, _⟩
  · exact (g 13 (by decide) (by decide) (fun z => absurd z.2 (by decide)) (fun z => absurd z.1 (by decide))).1.trans h13
  · exact absurd (hx.symm.trans g) (oNe rfl)
theorem Or0.xg (h : Or0 S F zz m od) (hX : XG K V S S') (hK : ∀ m, F m → KoM K m) (h1 : Ob S' (K 1) (oOwn 1)) : Or0 S' F zz m od := by
  obtain ⟨Sx, hX, hP⟩ := hX
  have h2 := h.xf hX hK
  have h1x : Ob Sx (K 1) (oOwn 1) := by show Sx.1 (K 1) = _; rw [← hP.1]; exact h1
  exact h2.fr hP.fr ⟨NoS.one h1x rfl, fun m hw hm => hK m hm 1 (by decide) hw⟩
theorem Or1.xg (h : Or1 S F zz m od) (hX : XG K V S S') (hK : ∀ m, F m → KoM K m) (h1 : Ob S' (K 1) (oOwn 1)) : Or1 S' F zz m od := by
  obtain ⟨Sx, hX, hP⟩ := hX
  have h2 := h.xf hX hK
  have h1x : Ob Sx (K 1) (oOwn 1) := by show Sx.1 (K 1) = _; rw [← hP.1]; exact h1
  exact h2.fr hP.fr ⟨NoS.one h1x rfl, fun m hw hm => hK m hm 1 (by decide) hw⟩
theorem OrIn.xg {ods : List SOrd0} (h : OrIn S F zz q ods) (hX : XG K V S S') (hK : ∀ m, F m → KoM K m) (h1 : Ob S' (K 1) (oOwn 1)) : OrIn S' F zz q ods := by
  obtain ⟨Sx, hX, hP⟩ := hX
  have h2 := h.xf hX hK
  have h1x : Ob Sx (K 1) (oOwn 1) := by show Sx.1 (K 1) = _; rw [← hP.1]; exact h1
  exact h2.fr hP.fr ⟨NoS.one h1x rfl, fun m hw hm => hK m hm 1 (by decide) hw⟩
theorem OrdIs.xg {og : SOrd} (h : OrdIs S F zz m og) (hX : XG K V S S') (hK : ∀ m, F m → KoM K m) (h1 : Ob S' (K 1) (oOwn 1)) : OrdIs S' F zz m og := by
  obtain ⟨Sx, hX, hP⟩ := hX
  have h2 := h.xf hX hK
  have h1x : Ob Sx (K 1) (oOwn 1) := by show Sx.1 (K 1) = _; rw [← hP.1]; exact h1
  exact h2.fr hP.fr ⟨NoS.one h1x rfl, fun m hw hm => hK m hm 1 (by decide) hw⟩
theorem OrsIs.xg {os : List SOrd} (h : OrsIs S F zz q os) (hX : XG K V S S') (hK : ∀ m, F m → KoM K m) (h1 : Ob S' (K 1) (oOwn 1)) : OrsIs S' F zz q os := by
  obtain ⟨Sx, hX, hP⟩ := hX
  have h2 := h.xf hX hK
  have h1x : Ob Sx (K 1) (oOwn 1) := by show Sx.1 (K 1) = _; rw [← hP.1]; exact h1
  exact h2.fr hP.fr ⟨NoS.one h1x rfl, fun m hw hm => hK m hm 1 (by decide) hw⟩
end XG
