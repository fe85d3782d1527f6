set_option maxRecDepth 100000
/-! the twin's acts line by line: p, n, j, v, l, > and < -/
def chgR (P post : List SLine) (e : Nat) (h o : List (List Int)) (fi : Nat → List (List Int)) (m : Nat → Option Int) (n : Int) (R : Option (List SLine × Bool)) : Nat ⊕ St := match R with
  | none => .inl 4
  | some (q, rp1) => .inr (P ++ q ++ post, e, h, o, fi, m, n, rp1)
def prR (t : List SLine) (e : Nat) (h : List (List Int)) (fi : Nat → List (List Int)) (m : Nat → Option Int) (n : Int) (rp : Bool) (R : Option (List (List Int))) : Nat ⊕ St := match R with
  | none => .inl 4
  | some o1 => .inr (t, e, h, o1, fi, m, n, rp)
def paR (P post : List SLine) (h o : List (List Int)) (fi : Nat → List (List Int)) (m : Nat → Option Int) (rp : Bool) (R : Option (List SLine × Int)) : Nat ⊕ St := match R with
  | none => .inl 4
  | some (q, n1) => .inr (P ++ q ++ post, P.length + q.length, h, o, fi, m, n1, rp)
def ActF (σ : TS) (R : Nat ⊕ St) (r : Option Int) (τ : TS) : Prop := AF σ τ ∧ match R with
  | .inl w => r = some (w : Int)
  | .inr A => r = some 0 ∧ TA A τ
theorem ActQ.f {σ τ : TS} {R : Nat ⊕ St} {r : Option Int} (h : ActQ σ R r τ) : ActF σ R r τ := ⟨h.1.af, h.2⟩
section TLns
variable {d : Nat} {σ τ : TS} {s l l1 : List Int} {fs as : List Nat} {pre mid post t : List SLine} {p : Nat} {h o : List (List Int)} {fi : Nat → List (List Int)} {m : Nat → Option Int} {n : Int} {rp : Bool} {rs : List (List Int)} {xs ys : List Int}
theorem T_print {nm : Bool} (hA : TA (pre ++ mid ++ post, p, h, o, fi, m, n, rp) σ) (hf : (σ.1 42) = pre.length + 1) (hl : (σ.1 43) = pre.length + mid.length) : TM (d + 3) tk_print [.inr 0, .inl (b2i nm)] σ (ActQ σ (prR (pre ++ mid ++ post) (pre.length + mid.length) h fi m n rp (sPrint nm (pre.length + 1) (rowsOfL mid) o))) := by
  obtain ⟨h12, h40⟩ := hA.lenM
  refine TM.of rfl rfl ?_
  (iterate 3 (first | (refine TW.getf rfl rfl rfl (fun _ => ?_)) | (refine TW.pl rfl rfl ?_)))
  have loop : ∀ (ms P : List SLine) (o' : List (List Int)) (k : Int) (τ : TS), pre ++ mid ++ post = P ++ ms ++ post → k = P.length + 1 → P.length + ms.length = pre.length + mid.length → TA (pre ++ mid ++ post, p, h, o', fi, m, n, rp) τ → (τ.1 43) = pre.length + mid.length → AX σ τ → TW (d + 2) tc_print 3 [some (.inr 0), some (.inl (b2i nm)), some (.inl k)] [] τ (ActQ σ (prR (pre ++ mid ++ post) (pre.length + mid.length) h fi m n rp (sPrint nm (P.length + 1) (rowsOfL ms) o'))) := by
    intro ms
    induction ms with
    | nil =>
      intro P o' k τ ht hk hpl hA' hl' hx
      simp at hpl
      (repeat (first | (refine TW.getf rfl rfl rfl (fun _ => ?_)) | (refine TW.pl rfl rfl ?_)))
      refine TW.br rfl rfl (by first | omega | exact b2i_R _ | exact ⟨b2i_R _, by omega⟩) (fun q1 => ?_) (fun q1 => ?_)
      · (repeat (first | (refine TW.getf rfl rfl rfl (fun _ => ?_)) | (refine TW.pl rfl rfl ?_)))
        refine TW.putf rfl rfl (by omega) ?_
        (repeat (first | (refine TW.getf rfl rfl rfl (fun _ => ?_)) | (refine TW.pl rfl rfl ?_)))
        exact TW.iret rfl ⟨hx.trans (AX.fr (TFr.rf.ts1 (fs := [16]) (as := []) (by decide)) (by decide) (by decide) (by decide)), rfl, hA'.pres (by omega)⟩
      · omega
    | cons x ms ih =>
      intro P o' k τ ht hk hpl hA' hl' hx
      simp at hpl
      have hA2 := hA'
      rw [ht, List.append_assoc, List.cons_append] at hA2
      obtain ⟨hrow, -, -, -⟩ := hA2.1.atZ
      -- behind the number
      have go : ∀ (τ1 : TS) (zs : List Int), MadeIs τ1 zs → zs.length ≤ 10 → TFr [20] [19] τ τ1 → (if nm = true then sNum (P.length + 1) ++ [32] else []) = zs → TW (d + 2) tc_print 18 [some (.inr 0), some (.inl (b2i nm)), some (.inl k)] [] τ1 (ActQ σ (prR (pre ++ mid ++ post) (pre.length + mid.length) h fi m n rp (sPrint nm (P.length + 1) (rowsOfL (x :: ms)) o'))) := by
        intro τ1 zs hm hz hf1 he
        have hrow1 : RowIs τ1 P.length x.2 := hrow.fr (hf1.2 6 (by decide))
        have h30 := hrow.2.1
        (repeat (first | (refine TW.getf rfl rfl rfl (fun _ => ?_)) | (refine TW.pl rfl rfl ?_)))
        refine TW.cs1 rfl rfl rfl (Nat.le_of_ble_eq_true rfl) (T_textRow (k := P.length) (by omega) (by omega)) ?_; rintro _ _ ⟨rfl, rfl⟩
        (repeat (first | (refine TW.getf rfl rfl rfl (fun _ => ?_)) | (refine TW.pl rfl rfl ?_)))
        refine TW.cs1 rfl rfl rfl (Nat.le_of_ble_eq_true rfl) (T_textRow (k := P.length) (by omega) (by omega)) ?_; rintro _ _ ⟨rfl, rfl⟩
        refine TW.cv1 rfl rfl rfl (Nat.le_of_ble_eq_true rfl) (T_lenR hrow1 rfl (by omega)) ?_; rintro _ _ ⟨rfl, rfl⟩
        refine TW.cv3 rfl rfl rfl (Nat.le_of_ble_eq_true rfl) (T_makesAll hrow1 rfl rfl (by omega) hm (by omega)) ?_
        rintro _ τ2 ⟨rfl, hm2, hf2⟩
        have hA3 : TA (pre ++ mid ++ post, p, h, o', fi, m, n, rp) τ2 := (hA'.fr hf1 (by decide) (by decide)).fr hf2 (by decide) (by decide)
        (repeat (first | (refine TW.getf rfl rfl rfl (fun _ => ?_)) | (refine TW.pl rfl rfl ?_)))
        refine TW.cv0 rfl rfl rfl (Nat.le_of_ble_eq_true rfl) (T_tells hA3 hm2 (by simp; omega)) ?_
        rintro r τ3 ⟨⟨hf3, hs3⟩, hq⟩
        have hx3 : AX σ τ3 := hx.trans ((AX.fr hf1 (by decide) (by decide) (by decide)).trans ((AX.fr hf2 (by decide) (by decide) (by decide)).trans (AX.row hf3 hs3 (by decide) (by decide) (fun k z => by omega))))
        have e0 : sPrint nm (P.length + 1) (rowsOfL (x :: ms)) o' = match sTell o' ((if nm = true then sNum (P.length + 1) ++ [32] else []) ++ x.2) with
          | none => none
          | some out1 => sPrint nm (P.length + 1 + 1) (rowsOfL ms) out1 := rfl
        rw [e0, he]
        revert hq
        cases hT : sTell o' (zs ++ x.2) with
        | none =>
          intro hq
          have hq : r = some 4 := hq
          subst hq
          refine TW.br rfl rfl (by first | omega | exact b2i_R _ | exact ⟨b2i_R _, by omega⟩) (fun q2 => ?_) (fun q2 => ?_)
          · exact absurd q2 (by decide)
          · (repeat (first | (refine TW.getf rfl rfl rfl (fun _ => ?_)) | (refine TW.pl rfl rfl ?_)))
            exact TW.iret rfl ⟨hx3, rfl⟩
        | some o1 =>
          rintro ⟨rfl, hA4⟩
          refine TW.br rfl rfl (by first | omega | exact b2i_R _ | exact ⟨b2i_R _, by omega⟩) (fun q2 => ?_) (fun q2 => ?_)
          · (iterate 2 (first | (refine TW.getf rfl rfl rfl (fun _ => ?_)) | (refine TW.pl rfl rfl ?_)))
            have hl3 : τ3.1 43 = pre.length + mid.length := by rw [hf3.1 43 (by decide), hf2.1 43 (by decide), hf1.1 43 (by decide)]; exact hl'
            have := ih (P ++ [x]) o1 (k + 1) τ3 (by rw [ht]; simp) (by simp; omega) (by simp; omega) hA4 hl3 hx3
            rw [show (P ++ [x]).length + 1 = P.length + 1 + 1 by simp] at this
            exact this
          · exact absurd q2 (by decide)
      (repeat (first | (refine TW.getf rfl rfl rfl (fun _ => ?_)) | (refine TW.pl rfl rfl ?_)))
      refine TW.br rfl rfl (by first | omega | exact b2i_R _ | exact ⟨b2i_R _, by omega⟩) (fun q1 => ?_) (fun q1 => ?_)
      · omega
      (repeat (first | (refine TW.getf rfl rfl rfl (fun _ => ?_)) | (refine TW.pl rfl rfl ?_)))
      refine TW.putf rfl rfl (by omega) ?_
      (repeat (first | (refine TW.getf rfl rfl rfl (fun _ => ?_)) | (refine TW.pl rfl rfl ?_)))
      refine TW.br rfl rfl (by first | omega | exact b2i_R _ | exact ⟨b2i_R _, by omega⟩) (fun q2 => ?_) (fun q2 => ?_)
      · have hnm : nm = false := b2i_0 q2
        exact go _ [] MadeIs.nil (by simp) (TFr.rf.ts1 (by decide)) (by rw [hnm]; rfl)
      · have hnm : nm = true := b2i_1 q2
        (repeat (first | (refine TW.getf rfl rfl rfl (fun _ => ?_)) | (refine TW.pl rfl rfl ?_)))
        refine TW.cv1 rfl rfl rfl (Nat.le_of_ble_eq_true rfl) (T_makesNumber (k := P.length + 1) (by omega) (by omega) MadeIs.nil (by simp)) ?_
        rintro _ τ1 ⟨rfl, hm1, hf1⟩
        have hsn : (sNum (P.length + 1)).length ≤ 3 := by unfold sNum; split <;> split <;> simp
        (repeat (first | (refine TW.getf rfl rfl rfl (fun _ => ?_)) | (refine TW.pl rfl rfl ?_)))
        refine TW.cv1 rfl rfl rfl (Nat.le_of_ble_eq_true rfl) (T_makes hm1 (by simp; omega) (by decide)) ?_
        rintro _ τ2 ⟨rfl, hm2, hf2⟩
        exact go τ2 _ hm2 (by simp; omega) (((TFr.rf.ts1 (by decide)).trans hf1).trans hf2) (by rw [hnm]; rfl)
  rw [hf]
  exact loop mid pre o _ σ rfl (by omega) rfl hA hl AX.rf
theorem T_part {b : Nat} {v : Int} (hA : TA (pre ++ mid ++ post, p, h, o, fi, m, n, rp) σ) (hf : (σ.1 42) = pre.length + 1) (hl : (σ.1 43) = pre.length + mid.length) (hv : v = b) (hb : b ≤ 1000) (hn : 0 ≤ n ∧ n < 900000) : TM (d + 4) tk_part [.inr 0, .inl v] σ (ActQ σ (paR pre post h o fi m rp (sPartL b (40 - (pre.length + mid.length + post.length)) n mid))) := by
  refine TM.of rfl rfl ?_
  (iterate 6 (first | (refine TW.getf rfl rfl rfl (fun _ => ?_)) | (refine TW.pl rfl rfl ?_)))
  have loop : ∀ (ms P : List SLine) (cap : Nat) (n' : Int) (k e : Int) (τ : TS), TA (P ++ ms ++ post, p, h, o, fi, m, n', rp) τ → k = P.length + 1 → e = P.length + ms.length → cap + (P.length + ms.length + post.length) = 40 → 0 ≤ n' → n' + cap ≤ 990000 → AX σ τ → TW (d + 3) tc_part 6 [some (.inr 0), some (.inl v), some (.inl k), some (.inl e)] [] τ (ActQ σ (paR P post h o fi m rp (sPartL b cap n' ms))) := by
    intro ms
    induction ms with
    | nil =>
      intro P cap n' k e τ hA' hk he hc h0 h9 hx
      simp at he
      (repeat (first | (refine TW.getf rfl rfl rfl (fun _ => ?_)) | (refine TW.pl rfl rfl ?_)))
      refine TW.br rfl rfl (by first | omega | exact b2i_R _ | exact ⟨b2i_R _, by omega⟩) (fun q1 => ?_) (fun q1 => ?_)
      · (repeat (first | (refine TW.getf rfl rfl rfl (fun _ => ?_)) | (refine TW.pl rfl rfl ?_)))
        refine TW.putf rfl rfl (by omega) ?_
        (repeat (first | (refine TW.getf rfl rfl rfl (fun _ => ?_)) | (refine TW.pl rfl rfl ?_)))
        refine TW.iret rfl ⟨hx.trans (AX.fr (TFr.rf.ts1 (fs := [16]) (as := []) (by decide)) (by decide) (by decide) (by decide)), rfl, ?_⟩
        exact hA'.pres (by simp; omega)
      · omega
    | cons x ms ih =>
      intro P cap n' k e τ hA' hk he hc h0 h9 hx
      obtain ⟨x1, x2⟩ := x
      simp at he hc
      rw [List.append_assoc, List.cons_append] at hA'
      obtain ⟨hrow, hidx, h12, h40⟩ := hA'.1.atZ
      simp at h12 h40
      have hrow : RowIs τ P.length x2 := hrow
      have h30 := hrow.2.1
      have e0 : sPartL b cap n' ((x1, x2) :: ms) = if b < x2.length then (match cap with
          | 0 => none
          | cap + 1 => match sPartL b cap (n' + 1) ms with
            | none => none
            | some (q, n1) => some ((x1, x2.take b) :: (n', x2.drop b) :: q, n1))
        else match sPartL b cap n' ms with
          | none => none
          | some (q, n1) => some ((x1, x2) :: q, n1) := by cases cap <;> rfl
      rw [e0]
      (repeat (first | (refine TW.getf rfl rfl rfl (fun _ => ?_)) | (refine TW.pl rfl rfl ?_)))
      refine TW.br rfl rfl (by first | omega | exact b2i_R _ | exact ⟨b2i_R _, by omega⟩) (fun q1 => ?_) (fun q1 => ?_)
      · omega
      (repeat (first | (refine TW.getf rfl rfl rfl (fun _ => ?_)) | (refine TW.pl rfl rfl ?_)))
      refine TW.cs1 rfl rfl rfl (Nat.le_of_ble_eq_true rfl) (T_textRow (k := P.length) (by omega) (by omega)) ?_; rintro _ _ ⟨rfl, rfl⟩
      refine TW.cv1 rfl rfl rfl (Nat.le_of_ble_eq_true rfl) (T_lenR hrow rfl (by omega)) ?_; rintro _ _ ⟨rfl, rfl⟩
      (repeat (first | (refine TW.getf rfl rfl rfl (fun _ => ?_)) | (refine TW.pl rfl rfl ?_)))
      refine TW.br rfl rfl (by first | omega | exact b2i_R _ | exact ⟨b2i_R _, by omega⟩) (fun q2 => ?_) (fun q2 => ?_)
      · rw [if_neg (by omega)]
        (iterate 2 (first | (refine TW.getf rfl rfl rfl (fun _ => ?_)) | (refine TW.pl rfl rfl ?_)))
        have := ih (P ++ [(x1, x2)]) cap n' (k + 1) e τ (by rw [List.append_assoc, List.append_assoc]; exact hA') (by simp; omega) (by simp; omega) (by simp; omega) h0 h9 hx
        revert this
        cases sPartL b cap n' ms with
        | none => exact id
        | some q =>
          obtain ⟨q, n1⟩ := q
          intro this
          have e1 : paR (P ++ [(x1, x2)]) post h o fi m rp (some (q, n1)) = paR P post h o fi m rp (some ((x1, x2) :: q, n1)) := by
            unfold paR
            simp
            omega
          rw [e1] at this
          exact this
      · rw [if_pos (by omega)]
        (repeat (first | (refine TW.getf rfl rfl rfl (fun _ => ?_)) | (refine TW.pl rfl rfl ?_)))
        refine TW.br rfl rfl (by first | omega | exact b2i_R _ | exact ⟨b2i_R _, by omega⟩) (fun q3 => ?_) (fun q3 => ?_)
        · obtain ⟨cap, rfl⟩ : ∃ c, cap = c + 1 := ⟨cap - 1, by omega⟩
          have hrow0 : RowIs (ts1 τ 20 0) P.length x2 := hrow
          (repeat (first | (refine TW.getf rfl rfl rfl (fun _ => ?_)) | (refine TW.pl rfl rfl ?_)))
          refine TW.putf rfl rfl (by omega) ?_
          (repeat (first | (refine TW.getf rfl rfl rfl (fun _ => ?_)) | (refine TW.pl rfl rfl ?_)))
          refine TW.cs1 rfl rfl rfl (Nat.le_of_ble_eq_true rfl) (T_textRow (k := P.length) (by omega) (by omega)) ?_; rintro _ _ ⟨rfl, rfl⟩
          (repeat (first | (refine TW.getf rfl rfl rfl (fun _ => ?_)) | (refine TW.pl rfl rfl ?_)))
          refine TW.cs1 rfl rfl rfl (Nat.le_of_ble_eq_true rfl) (T_textRow (k := P.length) (by omega) (by omega)) ?_; rintro _ _ ⟨rfl, rfl⟩
          refine TW.cv1 rfl rfl rfl (Nat.le_of_ble_eq_true rfl) (T_lenR hrow0 rfl (by omega)) ?_; rintro _ _ ⟨rfl, rfl⟩
          refine TW.cv3 rfl rfl rfl (Nat.le_of_ble_eq_true rfl) (T_makesRow hrow0 (by omega) (by omega) MadeIs.nil (by simp)) ?_
          rintro _ τ1 ⟨rfl, hm1, hf1⟩
          rw [List.nil_append, show v.toNat = b by omega, show ((x2.length : Int) - v).toNat = x2.length - b by omega, List.take_of_length_le (by simp)] at hm1
          (repeat (first | (refine TW.getf rfl rfl rfl (fun _ => ?_)) | (refine TW.pl rfl rfl ?_)))
          refine TW.cv1 rfl rfl rfl (Nat.le_of_ble_eq_true rfl) (T_lays' (row := 429) rfl (by decide) hm1 (by simp; omega)) ?_
          rintro _ τ2 ⟨rfl, hr2, -, hs2, hf2⟩
          have hA2 : TA (P ++ (x1, x2) :: (ms ++ post), p, h, o, fi, m, n', rp) τ2 := ((hA'.made (w := 0)).fr hf1 (by decide) (by decide)).rs hf2 hs2 (by decide) (by decide) (fun k z => by omega)
          rw [show P ++ (x1, x2) :: (ms ++ post) = (P ++ [(x1, x2)]) ++ (ms ++ post) by simp] at hA2
          (repeat (first | (refine TW.getf rfl rfl rfl (fun _ => ?_)) | (refine TW.pl rfl rfl ?_)))
          refine TW.cv2 rfl rfl rfl (Nat.le_of_ble_eq_true rfl) (T_bringA (row := 429) hA2 (by simp; omega) (hr2 (by simp; omega)) rfl (by decide) (by omega) (by simp; omega)) ?_
          rintro _ τ3 ⟨rfl, hA3, hs3, hf3⟩
          rw [show (P ++ [(x1, x2)]) ++ (n', x2.drop b) :: (ms ++ post) = P ++ (x1, x2) :: ((n', x2.drop b) :: (ms ++ post)) by simp] at hA3
          obtain ⟨hrow3, hid3, -, -⟩ := hA3.1.atZ
          (repeat (first | (refine TW.getf rfl rfl rfl (fun _ => ?_)) | (refine TW.pl rfl rfl ?_)))
          refine TW.cs1 rfl rfl rfl (Nat.le_of_ble_eq_true rfl) (T_textRow (k := P.length) (by omega) (by omega)) ?_; rintro _ _ ⟨rfl, rfl⟩
          (repeat (first | (refine TW.getf rfl rfl rfl (fun _ => ?_)) | (refine TW.pl rfl rfl ?_)))
          refine TW.cv2 rfl rfl rfl (Nat.le_of_ble_eq_true rfl) (T_cutTo (b := b) hrow3 rfl (by omega) hv (by show b ≤ x2.length; omega)) ?_
          rintro _ τ4 ⟨rfl, hr4, hs4, hf4⟩
          have hT := hA3.1.setZ (x' := (x1, x2.take b)) (hf4.1 12 (by decide)) hr4 (by rw [hf4.2 7 (by decide)]; exact hid3) hs4 (fun i _ => by rw [hf4.2 7 (by decide)])
          have hA4 : TA (P ++ (x1, x2.take b) :: ((n', x2.drop b) :: (ms ++ post)), p, h, o, fi, m, n' + 1, rp) τ4 := hA3.upd hT (hA3.2.2.2.1.fr (hf4.2 10 (by decide))) ((hf4.1 17 (by decide)).trans hA3.2.2.2.2.1) hf4 hs4 (by decide) (by decide) (fun k z => Or.inl (by omega))
          (iterate 4 (first | (refine TW.getf rfl rfl rfl (fun _ => ?_)) | (refine TW.pl rfl rfl ?_)))
          have hx0 : AX τ (ts1 τ 20 0) := AX.fr (TFr.rf.ts1 (fs := [20]) (as := []) (by decide)) (by decide) (by decide) (by decide)
          have hx4 : AX σ τ4 := hx.trans (hx0.trans ((AX.fr hf1 (by decide) (by decide) (by decide)).trans ((AX.row hf2 hs2 (by decide) (by decide) (fun k z => by omega)).trans ((AX.row hf3 hs3 (by decide) (by decide) (fun k z => by omega)).trans (AX.row hf4 hs4 (by decide) (by decide) (fun k z => by omega))))))
          have := ih (P ++ [(x1, x2.take b), (n', x2.drop b)]) cap (n' + 1) (k + 1 + 1) (e + 1) τ4 (by rw [List.append_assoc, List.append_assoc]; exact hA4) (by simp; omega) (by simp; omega) (by simp; omega) (by omega) (by omega) hx4
          dsimp only
          revert this
          cases sPartL b cap (n' + 1) ms with
          | none => exact id
          | some q =>
            obtain ⟨q, n1⟩ := q
            intro this
            have e1 : paR (P ++ [(x1, x2.take b), (n', x2.drop b)]) post h o fi m rp (some (q, n1)) = paR P post h o fi m rp (some ((x1, x2.take b) :: (n', x2.drop b) :: q, n1)) := by
              unfold paR
              simp
              omega
            rw [e1] at this
            exact this
        · have hc0 : cap = 0 := by omega
          subst hc0
          (repeat (first | (refine TW.getf rfl rfl rfl (fun _ => ?_)) | (refine TW.pl rfl rfl ?_)))
          exact TW.iret rfl ⟨hx, rfl⟩
  obtain ⟨h12, h40⟩ := hA.lenM
  rw [hf, hl]
  exact loop mid pre _ n _ _ σ hA (by omega) (by omega) (by omega) (by omega) (by omega) AX.rf
theorem T_lessAlike {x0 : SLine} (hA : TA (pre ++ (x0 :: mid) ++ post, p, h, o, fi, m, n, rp) σ) (hid : ∀ q ∈ mid, 0 ≤ q.1 ∧ q.1 < 1000000) (hf : (σ.1 42) = pre.length + 1) (hl : (σ.1 43) = pre.length + 1 + mid.length) : TM (d + 4) tk_lessAlike [.inr 0] σ (ActQ σ (.inr (pre ++ (x0 :: (sLess x0.2 mid).1) ++ post, pre.length + 1 + (sLess x0.2 mid).1.length, h, o, fi, unmL m (sLess x0.2 mid).2, n, rp))) := by
  refine TM.of rfl rfl ?_
  (iterate 11 (first | (refine TW.getf rfl rfl rfl (fun _ => ?_)) | (refine TW.pl rfl rfl ?_)))
  have loop : ∀ (ms P : List SLine) (y : SLine) (m' : Nat → Option Int) (k1 k2 e : Int) (τ : TS), (∀ q ∈ ms, 0 ≤ q.1 ∧ q.1 < 1000000) → TA (P ++ (y :: ms) ++ post, p, h, o, fi, m', n, rp) τ → k1 = P.length + 1 → k2 = P.length + 2 → e = P.length + 1 + ms.length → AX σ τ → TW (d + 3) tc_lessAlike 11 [some (.inr 0), some (.inl k1), some (.inl k2), some (.inl e)] [] τ (ActQ σ (.inr (P ++ (y :: (sLess y.2 ms).1) ++ post, P.length + 1 + (sLess y.2 ms).1.length, h, o, fi, unmL m' (sLess y.2 ms).2, n, rp))) := by
    intro ms
    induction ms with
    | nil =>
      intro P y m' k1 k2 e τ hi hA' hk1 hk2 he hx
      simp at he
      obtain ⟨h12, h40⟩ := hA'.lenM
      simp at h12 h40
      (repeat (first | (refine TW.getf rfl rfl rfl (fun _ => ?_)) | (refine TW.pl rfl rfl ?_)))
      refine TW.br rfl rfl (by first | omega | exact b2i_R _ | exact ⟨b2i_R _, by omega⟩) (fun q1 => ?_) (fun q1 => ?_)
      · (repeat (first | (refine TW.getf rfl rfl rfl (fun _ => ?_)) | (refine TW.pl rfl rfl ?_)))
        refine TW.putf rfl rfl (by omega) ?_
        (repeat (first | (refine TW.getf rfl rfl rfl (fun _ => ?_)) | (refine TW.pl rfl rfl ?_)))
        refine TW.iret rfl ⟨hx.trans (AX.fr (TFr.rf.ts1 (fs := [16]) (as := []) (by decide)) (by decide) (by decide) (by decide)), rfl, ?_⟩
        show TA (P ++ [y] ++ post, P.length + 1 + 0, h, o, fi, unmL m' [], n, rp) _
        rw [unmL_nil]
        exact hA'.pres (by omega)
      · omega
    | cons x ms ih =>
      intro P y m' k1 k2 e τ hi hA' hk1 hk2 he hx
      obtain ⟨x1, x2⟩ := x
      simp at he
      obtain ⟨h12, h40⟩ := hA'.lenM
      simp at h12 h40
      have hr0 := hA'.1.midRow (i := 0) (by simp)
      have hr1 := hA'.1.midRow (i := 1) (by simp)
      have hr0 : RowIs τ P.length y.2 := hr0.1
      have hr1 : RowIs τ (P.length + 1) x2 := hr1.1
      have e0 : sLess y.2 ((x1, x2) :: ms) = if x2 = y.2 then ((sLess y.2 ms).1, x1 :: (sLess y.2 ms).2) else ((x1, x2) :: (sLess x2 ms).1, (sLess x2 ms).2) := rfl
      rw [e0]
      (repeat (first | (refine TW.getf rfl rfl rfl (fun _ => ?_)) | (refine TW.pl rfl rfl ?_)))
      refine TW.br rfl rfl (by first | omega | exact b2i_R _ | exact ⟨b2i_R _, by omega⟩) (fun q1 => ?_) (fun q1 => ?_)
      · omega
      (repeat (first | (refine TW.getf rfl rfl rfl (fun _ => ?_)) | (refine TW.pl rfl rfl ?_)))
      refine TW.cs1 rfl rfl rfl (Nat.le_of_ble_eq_true rfl) (T_textRow (k := P.length + 1) (by omega) (by omega)) ?_; rintro _ _ ⟨rfl, rfl⟩
      (repeat (first | (refine TW.getf rfl rfl rfl (fun _ => ?_)) | (refine TW.pl rfl rfl ?_)))
      refine TW.cs1 rfl rfl rfl (Nat.le_of_ble_eq_true rfl) (T_textRow (k := P.length) (by omega) (by omega)) ?_; rintro _ _ ⟨rfl, rfl⟩
      refine TW.cv2 rfl rfl rfl (Nat.le_of_ble_eq_true rfl) (T_areSame rfl rfl hr1 hr0 (by omega) (by omega)) ?_; rintro _ _ ⟨rfl, rfl⟩
      refine TW.br rfl rfl (by first | omega | exact b2i_R _ | exact ⟨b2i_R _, by omega⟩) (fun q2 => ?_) (fun q2 => ?_)
      · have hne : ¬ x2 = y.2 := of_decide_eq_false (b2i_0 q2)
        rw [if_neg hne]
        (iterate 4 (first | (refine TW.getf rfl rfl rfl (fun _ => ?_)) | (refine TW.pl rfl rfl ?_)))
        have := ih (P ++ [y]) (x1, x2) m' k2 (k2 + 1) e τ (fun q hq => hi q (List.mem_cons_of_mem _ hq)) (by rw [show P ++ [y] ++ ((x1, x2) :: ms) ++ post = P ++ (y :: (x1, x2) :: ms) ++ post by simp]; exact hA') (by simp; omega) (by simp; omega) (by simp; omega) hx
        rw [show (P ++ [y] ++ ((x1, x2) :: (sLess x2 ms).1) ++ post) = P ++ (y :: (x1, x2) :: (sLess x2 ms).1) ++ post by simp, show (P ++ [y]).length + 1 + (sLess x2 ms).1.length = P.length + 1 + ((x1, x2) :: (sLess x2 ms).1).length by simp; omega] at this
        exact this
      · have heq : x2 = y.2 := of_decide_eq_true (b2i_1 q2)
        rw [if_pos heq]
        rw [show P ++ (y :: (x1, x2) :: ms) ++ post = (P ++ [y]) ++ (x1, x2) :: (ms ++ post) by simp] at hA'
        (repeat (first | (refine TW.getf rfl rfl rfl (fun _ => ?_)) | (refine TW.pl rfl rfl ?_)))
        refine TW.cv1 rfl rfl rfl (Nat.le_of_ble_eq_true rfl) (T_goesA hA' (hi _ List.mem_cons_self) (by simp; omega)) ?_
        rintro _ τ1 ⟨rfl, hA1, hs1, hf1⟩
        (iterate 2 (first | (refine TW.getf rfl rfl rfl (fun _ => ?_)) | (refine TW.pl rfl rfl ?_)))
        have := ih P y _ k1 k2 (e - 1) τ1 (fun q hq => hi q (List.mem_cons_of_mem _ hq)) (by rw [show P ++ (y :: ms) ++ post = (P ++ [y]) ++ (ms ++ post) by simp]; exact hA1) hk1 hk2 (by omega) (hx.trans (AX.row hf1 hs1 (by decide) (by decide) (fun k z => by omega)))
        rw [unmL_cons] at this
        exact this
  rw [hf, hl]
  exact loop mid pre x0 m _ _ _ σ hid hA (by omega) (by omega) (by omega) AX.rf
/-- a line's row is another one: no other thing is -/
theorem TA.setRow {x : SLine} {r' : List Int} (hA : TA (pre ++ x :: post, p, h, o, fi, m, n, rp) σ) (hr : RowIs τ pre.length r') (hs : RSame (fun k => k = pre.length) σ τ) (hf : TFr fs as σ τ) (h1 : ∀ k ∈ [12, 14, 15, 16, 17, 44], k ∉ fs) (h2 : ∀ k ∈ [7, 10, 11], k ∉ as) : TA (pre ++ (x.1, r') :: post, p, h, o, fi, m, n, rp) τ := by
  have h40 := (hA.1.atZ).2.2.2
  have hT := hA.1.setZ (x' := (x.1, r')) (hf.1 12 (h1 12 (by decide))) hr (by rw [hf.2 7 (h2 7 (by decide))]; exact (hA.1.atZ).2.1) hs (fun i _ => by rw [hf.2 7 (h2 7 (by decide))])
  exact hA.upd hT (hA.2.2.2.1.fr (hf.2 10 (h2 10 (by decide)))) ((hf.1 17 (h1 17 (by decide))).trans hA.2.2.2.2.1) hf hs (fun k hk => h1 k (by simp at hk ⊢; omega)) (h2 11 (by decide)) (fun k z => Or.inl (by omega))
theorem chgR_cons {P : List SLine} {x : SLine} {r1 : List Int} {e : Nat} {R : Option (List SLine × Bool)} : chgR (P ++ [(x.1, r1)]) post e h o fi m n R = chgR P post e h o fi m n (match R with | none => none | some (q, rp1) => some ((x.1, r1) :: q, rp1)) := by
  cases R with
  | none => rfl
  | some q => obtain ⟨q, b⟩ := q; unfold chgR; simp
theorem T_shift {od : SOrd0} {b : Nat} {v : Int} {right : Bool} (hact : if right = true then oAct od = 62 else oAct od = 60) (hnum : oNum od = b) (hA : TA (pre ++ mid ++ post, p, h, o, fi, m, n, rp) σ) (hf : (σ.1 42) = pre.length + 1) (hl : (σ.1 43) = pre.length + mid.length) (hv : v = b) (hb : b ≤ 1000) : TM (d + 4) tk_shift [.inr 0, .inl v, .inl (b2i right)] σ (ActQ σ (chgR pre post (pre.length + mid.length) h o fi m n (sChgL od mid rp))) := by
  obtain ⟨h12, h40⟩ := hA.lenM
  refine TM.of rfl rfl ?_
  (iterate 3 (first | (refine TW.getf rfl rfl rfl (fun _ => ?_)) | (refine TW.pl rfl rfl ?_)))
  have loop : ∀ (ms P : List SLine) (k : Int) (τ : TS), TA (P ++ ms ++ post, p, h, o, fi, m, n, rp) τ → k = P.length + 1 → P.length + ms.length = pre.length + mid.length → (τ.1 43) = pre.length + mid.length → AX σ τ → TW (d + 3) tc_shift 3 [some (.inr 0), some (.inl v), some (.inl (b2i right)), some (.inl k)] [] τ (ActQ σ (chgR P post (pre.length + mid.length) h o fi m n (sChgL od ms rp))) := by
    intro ms
    induction ms with
    | nil =>
      intro P k τ hA' hk hpl hl' hx
      simp at hpl
      (repeat (first | (refine TW.getf rfl rfl rfl (fun _ => ?_)) | (refine TW.pl rfl rfl ?_)))
      refine TW.br rfl rfl (by first | omega | exact b2i_R _ | exact ⟨b2i_R _, by omega⟩) (fun q1 => ?_) (fun q1 => ?_)
      · (repeat (first | (refine TW.getf rfl rfl rfl (fun _ => ?_)) | (refine TW.pl rfl rfl ?_)))
        refine TW.putf rfl rfl (by omega) ?_
        (repeat (first | (refine TW.getf rfl rfl rfl (fun _ => ?_)) | (refine TW.pl rfl rfl ?_)))
        exact TW.iret rfl ⟨hx.trans (AX.fr (TFr.rf.ts1 (fs := [16]) (as := []) (by decide)) (by decide) (by decide) (by decide)), rfl, hA'.pres (by omega)⟩
      · omega
    | cons x ms ih =>
      intro P k τ hA' hk hpl hl' hx
      simp at hpl
      have hA2 := hA'
      rw [List.append_assoc, List.cons_append] at hA2
      obtain ⟨hrow, -, -, -⟩ := hA2.1.atZ
      have h30 := hrow.2.1
      have e0 : sChgL od (x :: ms) rp = match sChg od x.2 with
        | none => none
        | some (r1, b) => match sChgL od ms (rp || b) with
          | none => none
          | some (q, rp1) => some ((x.1, r1) :: q, rp1) := rfl
      have next : ∀ (τ1 : TS) (r1 : List Int), RowIs τ1 P.length r1 → RSame (fun k => k = P.length) τ τ1 → TFr [20] [6, 19] τ τ1 → sChg od x.2 = some (r1, false) → TW (d + 3) tc_shift 23 [some (.inr 0), some (.inl v), some (.inl (b2i right)), some (.inl k)] [] τ1 (ActQ σ (chgR P post (pre.length + mid.length) h o fi m n (sChgL od (x :: ms) rp))) := by
        intro τ1 r1 hr1 hs1 hf1 hc
        rw [e0, hc]
        dsimp only
        rw [Bool.or_false, ← chgR_cons]
        (iterate 2 (first | (refine TW.getf rfl rfl rfl (fun _ => ?_)) | (refine TW.pl rfl rfl ?_)))
        exact ih (P ++ [(x.1, r1)]) (k + 1) τ1 (by rw [List.append_assoc, List.append_assoc]; exact hA2.setRow hr1 hs1 hf1 (by decide) (by decide)) (by simp; omega) (by simp; omega) ((hf1.1 43 (by decide)).trans hl') (hx.trans (AX.row hf1 hs1 (by decide) (by decide) (fun k z => by omega)))
      (repeat (first | (refine TW.getf rfl rfl rfl (fun _ => ?_)) | (refine TW.pl rfl rfl ?_)))
      refine TW.br rfl rfl (by first | omega | exact b2i_R _ | exact ⟨b2i_R _, by omega⟩) (fun q1 => ?_) (fun q1 => ?_)
      · omega
      (repeat (first | (refine TW.getf rfl rfl rfl (fun _ => ?_)) | (refine TW.pl rfl rfl ?_)))
      cases right with
      | false =>
        have hact : oAct od = 60 := hact
        refine TW.br rfl rfl (by first | omega | exact b2i_R _ | exact ⟨b2i_R _, by omega⟩) (fun q2 => ?_) (fun q2 => ?_)
        · exact absurd rfl q2
        (repeat (first | (refine TW.getf rfl rfl rfl (fun _ => ?_)) | (refine TW.pl rfl rfl ?_)))
        refine TW.cs1 rfl rfl rfl (Nat.le_of_ble_eq_true rfl) (T_textRow (k := P.length) (by omega) (by omega)) ?_; rintro _ _ ⟨rfl, rfl⟩
        (repeat (first | (refine TW.getf rfl rfl rfl (fun _ => ?_)) | (refine TW.pl rfl rfl ?_)))
        refine TW.cv2 rfl rfl rfl (Nat.le_of_ble_eq_true rfl) (T_moveLeft hrow rfl (by omega) hv hb) ?_
        rintro _ τ1 ⟨rfl, hr1, hs1, hf1⟩
        (iterate 1 (first | (refine TW.getf rfl rfl rfl (fun _ => ?_)) | (refine TW.pl rfl rfl ?_)))
        refine next τ1 _ hr1 hs1 hf1 ?_
        unfold sChg
        rw [if_neg (by omega), if_neg (by omega), if_neg (by omega), show (oNum od).toNat = b by omega]
      | true =>
        have hact : oAct od = 62 := hact
        refine TW.br rfl rfl (by first | omega | exact b2i_R _ | exact ⟨b2i_R _, by omega⟩) (fun q2 => ?_) (fun q2 => ?_)
        · (repeat (first | (refine TW.getf rfl rfl rfl (fun _ => ?_)) | (refine TW.pl rfl rfl ?_)))
          refine TW.cs1 rfl rfl rfl (Nat.le_of_ble_eq_true rfl) (T_textRow (k := P.length) (by omega) (by omega)) ?_; rintro _ _ ⟨rfl, rfl⟩
          (repeat (first | (refine TW.getf rfl rfl rfl (fun _ => ?_)) | (refine TW.pl rfl rfl ?_)))
          refine TW.cv2 rfl rfl rfl (Nat.le_of_ble_eq_true rfl) (T_moveRight hrow rfl (by omega) hv hb) ?_
          rintro _ τ1 ⟨rfl, hr1, hs1, hf1⟩
          refine TW.br rfl rfl (by first | omega | exact b2i_R _ | exact ⟨b2i_R _, by omega⟩) (fun q3 => ?_) (fun q3 => ?_)
          · have hle : b + x.2.length ≤ 30 := of_decide_eq_true (b2i_1 q3)
            refine next τ1 _ (hr1 hle) hs1 hf1 ?_
            unfold sChg
            rw [if_neg (by omega), if_neg (by omega), if_pos hact, show (oNum od).toNat = b by omega, if_neg (by omega)]
          · have hle : ¬ b + x.2.length ≤ 30 := of_decide_eq_false (b2i_0 q3)
            rw [e0, show sChg od x.2 = none by
              unfold sChg
              rw [if_neg (by omega), if_neg (by omega), if_pos hact, show (oNum od).toNat = b by omega, if_pos (by omega)]]
            (repeat (first | (refine TW.getf rfl rfl rfl (fun _ => ?_)) | (refine TW.pl rfl rfl ?_)))
            exact TW.iret rfl ⟨hx.trans (AX.row hf1 hs1 (by decide) (by decide) (fun k z => by omega)), rfl⟩
        · exact absurd q2 (by decide)
  rw [hf]
  exact loop mid pre _ σ hA (by omega) rfl hl AX.rf
end TLns
