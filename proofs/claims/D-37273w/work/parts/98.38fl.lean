set_option maxRecDepth 100000
/-! where a fault is: never ahead of the text -/
section FL
variable {l f : List Int} {st gr : Nat}
def Flr {α : Type} (R : PR α) (n : Nat) : Prop := ∀ f, R = .inl f → f.length ≤ n
theorem Flr.le {α : Type} {R : PR α} {n k : Nat} (h : Flr R n) (hk : n ≤ k) : Flr R k := fun f e => Nat.le_trans (h f e) hk
theorem Flr.inl {α : Type} {n : Nat} (h : f.length ≤ n) : Flr (.inl f : PR α) n := fun _ e => by cases e; exact h
theorem Flr.inr {α : Type} {n : Nat} {v : List Int × α} : Flr (.inr v : PR α) n := fun _ e => by cases e
theorem Flr.ite {α : Type} {n : Nat} {c : Prop} [Decidable c] {R R' : PR α} (h : Flr R n) (h' : Flr R' n) : Flr (if c then R else R') n := by split <;> assumption
theorem pNum_fl : Flr (pNum l) l.length := by
  unfold pNum
  exact .ite (.ite .inr .inr) (.inl (Nat.le_refl _))
theorem pPlain_fl : Flr (pPlain st l) l.length := by
  unfold pPlain
  dsimp only
  refine .ite (.inl (Nat.le_refl _)) (.ite (.ite .inr (.inl (Nat.le_refl _))) (.ite .inr (.ite (.ite (.inl ?_) (.ite .inr (.inl ?_))) (.ite .inr (.inl (Nat.le_refl _))))))
  · split
    · exact Nat.le_trans (tl_len _) (tl_len _)
    · exact tl_len _
  · refine Nat.le_trans (dw_len _ _) ?_
    split
    · exact Nat.le_trans (tl_len _) (tl_len _)
    · exact tl_len _
theorem pGrp_fl : ∀ (k st : Nat) (acc : List SPart) (l : List Int), Flr (pGrp k st acc l) l.length := by
  intro k
  induction k with
  | zero => intro st acc l; unfold pGrp; exact .ite .inr (.inl (Nat.le_refl _))
  | succ k ih =>
    intro st acc l
    unfold pGrp
    refine .ite .inr ?_
    dsimp only
    cases hp : pPlain st l with
    | inl f => exact .inl (pPlain_fl _ hp)
    | inr v => exact (ih _ _ _).le (pPlain_shr _ _ hp)
theorem pItem_fl : Flr (pItem gr st l) l.length := by
  unfold pItem
  refine .ite (.ite ?_ (.inl (Nat.le_refl _))) (.ite (.ite (.ite .inr (.inl (tl_len _))) (.inl (Nat.le_refl _))) ?_)
  · cases hp : pGrp 12 st [] l.tail with
    | inl f => exact .inl (Nat.le_trans (pGrp_fl _ _ _ _ _ hp) (tl_len _))
    | inr v => exact .inr
  · cases hp : pPlain st l with
    | inl f => exact .inl (pPlain_fl _ hp)
    | inr v => exact .inr
theorem pItems_fl (e : Int) : ∀ (k gr st : Nat) (acc : List SPart) (l : List Int), Flr (pItems e k gr st acc l) l.length := by
  intro k
  induction k with
  | zero => intro gr st acc l; unfold pItems; exact .ite .inr (.inl (Nat.le_refl _))
  | succ k ih =>
    intro gr st acc l
    unfold pItems
    refine .ite .inr ?_
    dsimp only
    cases hp : pItem gr st l with
    | inl f => exact .inl (pItem_fl _ hp)
    | inr v => exact (ih _ _ _ _).le (pItem_shr _ _ hp)
theorem pPat_fl (e : Int) : Flr (pPat e l) l.length := by
  unfold pPat
  dsimp only
  have h2 : (if decide (hd l = 94) = true then l.tail else l).length ≤ l.length := by split <;> simp
  cases hp : pItems e 12 0 0 [] (if decide (hd l = 94) = true then l.tail else l) with
  | inl f => exact .inl (Nat.le_trans (pItems_fl _ _ _ _ _ _ _ hp) h2)
  | inr v =>
    refine .ite (.inl ?_) .inr
    have := pItems_shr _ _ _ _ _ _ _ _ hp
    have h3 : (if decide (hd v.1 = 36) = true then v.1.tail else v.1).length ≤ v.1.length := by split <;> simp
    omega
theorem pSpot_fl : Flr (pSpot l) l.length := by
  unfold pSpot
  refine .ite ?_ (.ite (.ite .inr (.inl (tl_len _))) (.ite ?_ (.ite .inr (.inl (Nat.le_refl _)))))
  · cases hp : pNum l with
    | inl f => exact .inl (pNum_fl _ hp)
    | inr v => exact .inr
  · cases hp : pPat (hd l) l.tail with
    | inl f => exact .inl (Nat.le_trans (pPat_fl _ _ hp) (tl_len _))
    | inr v => exact .ite .inr (.inl (Nat.le_trans (pPat_shr _ _ _ hp) (tl_len _)))
theorem pMore_fl : ∀ (k : Nat) (v : Int) (b : Bool) (l : List Int), Flr (pMore k v b l) l.length := by
  intro k
  induction k with
  | zero => intro v b l; unfold pMore; exact .ite (.inl (Nat.le_refl _)) .inr
  | succ k ih =>
    intro v b l
    unfold pMore
    refine .ite ?_ .inr
    dsimp only
    cases hp : pNum l.tail with
    | inl f => exact .inl (Nat.le_trans (pNum_fl _ hp) (tl_len _))
    | inr v => exact (ih _ _ _).le (Nat.le_trans (pNum_shr _ _ hp) (tl_len _))
theorem pAdr_fl : Flr (pAdr l) l.length := by
  unfold pAdr
  cases hp : pSpot l with
  | inl f => exact .inl (pSpot_fl _ hp)
  | inr v =>
    dsimp only
    cases hq : pMore v.1.length 0 false v.1 with
    | inl f => exact .inl (Nat.le_trans (pMore_fl _ _ _ _ _ hq) (pSpot_shr _ _ hp))
    | inr w => exact .inr
theorem pWhere_fl : Flr (pWhere l) l.length := by
  unfold pWhere
  refine .ite .inr (.ite ?_ .inr)
  cases hp : pAdr l with
  | inl f => exact .inl (pAdr_fl _ hp)
  | inr v =>
    have h1 := pAdr_shr _ _ hp
    dsimp only
    refine .ite ?_ .inr
    cases hq : pAdr v.1.tail with
    | inl f => exact .inl (Nat.le_trans (pAdr_fl _ hq) (Nat.le_trans (tl_len _) h1))
    | inr w => exact .inr
theorem pRows_fl : ∀ (k : Nat) (l : List Int), Flr (pRows k l) l.length := by
  intro k
  induction k with
  | zero => intro l; unfold pRows; exact .ite (.inl (by simp)) (.ite (.inl (Nat.le_refl _)) .inr)
  | succ k ih =>
    intro l
    unfold pRows
    refine .ite (.inl (by simp)) (.ite ?_ .inr)
    dsimp only
    cases hp : pRows k (l.dropWhile isChr).tail with
    | inl f => exact .inl (Nat.le_trans (ih _ _ hp) (Nat.le_trans (tl_len _) (dw_len _ _)))
    | inr v => exact .inr
theorem pPut_fl (c : Nat) : ∀ (k : Nat) (l : List Int), Flr (pPut c k l) l.length := by
  intro k
  induction k with
  | zero => intro l; unfold pPut; exact .ite (.ite (.ite (.inl (Nat.le_refl _)) (.inl (tl_len _))) (.inl (Nat.le_refl _))) (.ite (.inl (Nat.le_refl _)) .inr)
  | succ k ih =>
    intro l
    unfold pPut
    dsimp only
    refine .ite (.ite (.ite ?_ (.inl (tl_len _))) (.inl (Nat.le_refl _))) (.ite ?_ .inr)
    · cases hp : pPut c k l.tail.tail with
      | inl f => exact .inl (Nat.le_trans (ih _ _ hp) (Nat.le_trans (tl_len _) (tl_len _)))
      | inr v => exact .inr
    · cases hp : pPut c k l.tail with
      | inl f => exact .inl (Nat.le_trans (ih _ _ hp) (tl_len _))
      | inr v => exact .inr
theorem pRepl_fl : Flr (pRepl l) l.length := by
  unfold pRepl
  refine .ite ?_ (.inl (Nat.le_refl _))
  have h3 := tl_len l
  cases hp : pPat 47 l.tail with
  | inl f => exact .inl (Nat.le_trans (pPat_fl _ _ hp) h3)
  | inr v =>
    have h1 := pPat_shr _ _ _ hp
    dsimp only
    refine .ite ?_ (.inl (Nat.le_trans h1 h3))
    have h4 := tl_len v.1
    cases hq : pPut v.2.1 v.1.length v.1.tail with
    | inl f =>
      have h2 := pPut_fl _ _ _ _ hq
      exact .inl (by omega)
    | inr w =>
      have h2 := pPut_shr _ _ _ _ _ hq
      dsimp only
      exact .ite (.ite .inr (.ite .inr .inr)) (.inl (by omega))
theorem pTurn_fl : Flr (pTurn l) l.length := by
  unfold pTurn
  dsimp only
  have h1 := dw_len isChr l.tail
  have h2 := tl_len l
  have h3 := tl_len (l.tail.dropWhile isChr)
  refine .ite (.ite (.inl h2) (.ite (.ite (.inl ?_) (.ite .inr (.inl ?_))) (.inl (Nat.le_trans h1 h2)))) (.inl (Nat.le_refl _))
  · rw [List.length_drop]; omega
  · rw [List.length_drop]; omega
theorem pAct_fl {inner : Bool} {w : Bool × Option SAdr × Option SAdr} : Flr (pAct inner w l) l.length := by
  have ht := tl_len l
  unfold pAct
  dsimp only
  refine .ite (.inl (Nat.le_refl _)) (.ite ?_ (.ite ?_ (.ite ?_ (.ite (.ite .inr (.inl ht)) (.ite (.ite .inr (.inl ht)) (.ite (.ite .inr (.inl ht)) (.ite (.ite .inr .inr) (.ite ?_ (.ite ?_ (.ite .inr (.inl (Nat.le_refl _))))))))))))
  · cases hp : pRows l.tail.length l.tail with
    | inl f => exact .inl (Nat.le_trans (pRows_fl _ _ _ hp) ht)
    | inr v => exact .inr
  · cases hp : pNum l.tail with
    | inl f => exact .inl (Nat.le_trans (pNum_fl _ hp) ht)
    | inr v => exact .inr
  · cases hp : pAdr l.tail with
    | inl f => exact .inl (Nat.le_trans (pAdr_fl _ hp) ht)
    | inr v => exact .inr
  · cases hp : pRepl l.tail with
    | inl f => exact .inl (Nat.le_trans (pRepl_fl _ hp) ht)
    | inr v => exact .inr
  · cases hp : pTurn l.tail with
    | inl f => exact .inl (Nat.le_trans (pTurn_fl _ hp) ht)
    | inr v => exact .inr
theorem pInner_fl : Flr (pInner l) l.length := by
  unfold pInner
  cases hp : pWhere l with
  | inl f => exact .inl (pWhere_fl _ hp)
  | inr v => exact pAct_fl.le (pWhere_shr _ _ hp)
theorem pInners_fl : ∀ (k : Nat) (l : List Int), Flr (pInners k l) l.length := by
  intro k
  induction k with
  | zero =>
    intro l
    unfold pInners
    cases hp : pInner l with
    | inl f => exact .inl (pInner_fl _ hp)
    | inr v => exact .ite (.inl (pInner_shr _ _ hp)) .inr
  | succ k ih =>
    intro l
    unfold pInners
    cases hp : pInner l with
    | inl f => exact .inl (pInner_fl _ hp)
    | inr v =>
      have h1 := pInner_shr _ _ hp
      dsimp only
      refine .ite ?_ .inr
      cases hq : pInners k v.1.tail with
      | inl f => exact .inl (Nat.le_trans (ih _ _ hq) (Nat.le_trans (tl_len _) h1))
      | inr w => exact .inr
theorem pBlock_fl : Flr (pBlock l) l.length := by
  unfold pBlock
  refine .ite ?_ (.inl (Nat.le_refl _))
  cases hp : pInners l.length l.tail with
  | inl f => exact .inl (Nat.le_trans (pInners_fl _ _ _ hp) (tl_len _))
  | inr v => exact .ite .inr (.inl (Nat.le_trans (pInners_shr _ _ _ _ hp) (tl_len _)))
theorem pOrder_fl : Flr (pOrder l) l.length := by
  unfold pOrder
  cases hp : pWhere l with
  | inl f => exact .inl (pWhere_fl _ hp)
  | inr v =>
    have h1 := pWhere_shr _ _ hp
    have h3 := tl_len v.1
    have h4 := tl_len v.1.tail
    dsimp only
    refine .ite ?_ (.ite (.ite ?_ (.inl (Nat.le_trans h3 h1))) ?_)
    · cases hq : pBlock v.1 with
      | inl f => exact .inl (Nat.le_trans (pBlock_fl _ hq) h1)
      | inr w => exact .inr
    · cases hq : pPat 47 v.1.tail.tail with
      | inl f =>
        have h2 := pPat_fl _ _ hq
        exact .inl (by omega)
      | inr w =>
        have h2 := pPat_shr _ _ _ hq
        have h5 := tl_len w.1
        dsimp only
        refine .ite (.ite ?_ ?_) (.inl (by omega))
        · cases hr : pBlock w.1.tail with
          | inl f => have := pBlock_fl _ hr; exact .inl (by omega)
          | inr u => exact .inr
        · cases hr : pInner w.1.tail with
          | inl f => have := pInner_fl _ hr; exact .inl (by omega)
          | inr u => exact .inr
    · cases hq : pAct false v.2 v.1 with
      | inl f => exact .inl (Nat.le_trans (pAct_fl _ hq) h1)
      | inr w => exact .inr
theorem pOrders_fl : ∀ (k : Nat) (l : List Int), Flr (pOrders k l) l.length := by
  intro k
  induction k with
  | zero =>
    intro l
    unfold pOrders
    cases hp : pOrder l with
    | inl f => exact .inl (pOrder_fl _ hp)
    | inr v => exact .ite (.inl (pOrder_shr _ _ hp)) .inr
  | succ k ih =>
    intro l
    unfold pOrders
    cases hp : pOrder l with
    | inl f => exact .inl (pOrder_fl _ hp)
    | inr v =>
      have h1 := pOrder_shr _ _ hp
      dsimp only
      refine .ite ?_ .inr
      cases hq : pOrders k v.1.tail with
      | inl f => exact .inl (Nat.le_trans (ih _ _ hq) (Nat.le_trans (tl_len _) h1))
      | inr w => exact .inr
theorem pOrders_shl : ∀ (k : Nat) (l : List Int), Shr (pOrders k l) l.length := by
  intro k
  induction k with
  | zero =>
    intro l
    unfold pOrders
    cases hp : pOrder l with
    | inl f => exact .inl
    | inr v => exact .ite .inl (.inr (pOrder_shr _ _ hp))
  | succ k ih =>
    intro l
    unfold pOrders
    cases hp : pOrder l with
    | inl f => exact .inl
    | inr v =>
      have h1 := pOrder_shr _ _ hp
      dsimp only
      refine .ite ?_ (.inr h1)
      cases hq : pOrders k v.1.tail with
      | inl f => exact .inl
      | inr w => exact .inr (Nat.le_trans (ih _ _ _ hq) (Nat.le_trans (tl_len _) h1))
end FL
