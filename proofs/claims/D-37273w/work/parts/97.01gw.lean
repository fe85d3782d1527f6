set_option maxRecDepth 100000
/-! THE WALK OVER MACHINE G, in plain Lean: GW at an instruction, GM at a method -/
def GCle2 (f h : GC) : Prop := ∀ mid as g r, f mid as g = some r → h mid as g = some r
set_option maxHeartbeats 4000000 in
theorem gexec_mono {f h : GC} (hfg : GCle2 f h) (M : GMeth) : ∀ (n n' i : Nat) (ls : GL) (st : List GV) (g : GH) (r : GO × GH), n ≤ n' → gexec f M n i ls st g = some r → gexec h M n' i ls st g = some r := by
  intro n
  induction n with
  | zero => intro n' i ls st g r _ h; simp [gexec] at h
  | succ n ih =>
    intro n' i ls st g r hn h
    obtain ⟨n', rfl⟩ : ∃ k, n' = k + 1 := ⟨n' - 1, by omega⟩
    have hn : n ≤ n' := by omega
    simp only [gexec] at h ⊢
    cases hC : M.2.2.1[i]? with
    | none => rw [hC] at h; cases h
    | some t =>
      obtain ⟨op, a, b⟩ := t
      rw [hC] at h
      dsimp only at h ⊢
      split at h
      · rename_i ho
        rw [if_pos ho]
        cases ht : gstep i op a b ls st g with
        | none => rw [ht] at h; cases h
        | some q =>
          obtain ⟨i', ls', st', g'⟩ := q
          rw [ht] at h
          exact ih n' i' ls' st' g' r hn h
      · rename_i ho
        rw [if_neg ho]
        split at h
        · (try dsimp only at h)
          (try dsimp only)
          cases hs : gsites[a]? with
          | none => rw [hs] at h; cases h
          | some s =>
            obtain ⟨kind, mid, tag, num⟩ := s
            rw [hs] at h
            dsimp only at h ⊢
            split at h
            · rename_i hc
              rw [if_pos hc]
              cases hr : f mid (st.take num).reverse g with
              | none => rw [hr] at h; cases h
              | some q =>
                obtain ⟨ro, g2⟩ := q
                rw [hr] at h
                rw [hfg _ _ _ _ hr]
                rcases ro with ro | ⟨E, q⟩
                · exact ih n' _ _ _ _ r hn h
                · dsimp only at h ⊢
                  cases hh : ghnd M.2.2.2 i with
                  | none => rw [hh] at h; exact h
                  | some z =>
                    obtain ⟨z1, z2⟩ := z
                    rw [hh] at h
                    cases q with
                    | none => cases h
                    | some n =>
                      dsimp only at h ⊢
                      split at h
                      · rename_i hq; rw [if_pos hq]; exact ih n' _ _ _ _ r hn h
                      · cases h
            · cases h
        · exact h
        · exact h
        · exact h
        · exact h
        · exact h
        all_goals first | (cases h; done) | (split at h <;> first | (cases h; done) | ((try dsimp only at h); (try dsimp only); split at h <;> first | (cases h; done) | (rename_i hq; rw [if_pos hq]; exact ih n' _ _ _ _ r hn h)))
theorem grun_mono {N N' : Nat} (hN : N ≤ N') : ∀ {d d' : Nat}, d ≤ d' → GCle2 (grun d N) (grun d' N') := by
  intro d
  induction d with
  | zero => intro d' _ mid as g r h; simp [grun] at h
  | succ d ih =>
    intro d' hd mid as g r h
    obtain ⟨d', rfl⟩ : ∃ k, d' = k + 1 := ⟨d' - 1, by omega⟩
    simp only [grun] at h ⊢
    cases hM : gmt[mid]? with
    | none => rw [hM] at h; cases h
    | some M =>
      rw [hM] at h
      dsimp only at h ⊢
      split at h
      · rename_i hl
        rw [if_pos hl]
        exact gexec_mono (ih (by omega)) _ N N' 0 _ [] g r hN h
      · cases h
def GW (d : Nat) (M : GMeth) (i : Nat) (ls : GL) (st : List GV) (g : GH) (Q : GO → GH → Prop) : Prop := GWf g → ∃ (N : Nat) (r : GO) (g' : GH), gexec (grun d N) M N i ls st g = some (r, g') ∧ GWf g' ∧ Q r g'
def GM (d mid : Nat) (as : List GV) (g : GH) (Q : GO → GH → Prop) : Prop := GWf g → ∃ (N : Nat) (r : GO) (g' : GH), grun d N mid as g = some (r, g') ∧ GWf g' ∧ Q r g'
/-- it returns (it throws nothing) -/
def GMr (d mid : Nat) (as : List GV) (g : GH) (Q : Option GV → GH → Prop) : Prop := GM d mid as g (fun r g' => ∃ v, r = .inl v ∧ Q v g')
/-- it returns just that, and nothing changes -/
def GE (d mid : Nat) (as : List GV) (g : GH) (v : Option GV) : Prop := GMr d mid as g (fun r g' => v = r ∧ g = g')
abbrev vI (x : Int) : Option GV := some (.inl x)
abbrev vR (r : Option Nat) : Option GV := some (.inr (.inr r))
abbrev aI (x : Int) : GV := .inl x
abbrev aR (n : Nat) : GV := .inr (.inr (some n))
abbrev aQ (r : Option Nat) : GV := .inr (.inr r)
abbrev aL (x : Int) : GV := .inr (.inl x)
theorem GM.mono {d d' mid : Nat} {as : List GV} {g : GH} {Q Q' : GO → GH → Prop} (h : GM d mid as g Q) (hd : d ≤ d') (hQ : ∀ r g', GWf g' → Q r g' → Q' r g') : GM d' mid as g Q' := by
  intro hR
  obtain ⟨N, r, g', h1, h3, h2⟩ := h hR
  exact ⟨N, r, g', grun_mono (Nat.le_refl N) hd _ _ _ _ h1, h3, hQ _ _ h3 h2⟩
theorem GMr.mono {d d' mid : Nat} {as : List GV} {g : GH} {Q Q' : Option GV → GH → Prop} (h : GMr d mid as g Q) (hd : d ≤ d') (hQ : ∀ r g', GWf g' → Q r g' → Q' r g') : GMr d' mid as g Q' :=
  GM.mono h hd (fun _ _ hw ⟨v, e, q⟩ => ⟨v, e, hQ _ _ hw q⟩)
theorem GM.wf {d mid : Nat} {as : List GV} {g : GH} {Q : GO → GH → Prop} (h : GWf g → GM d mid as g Q) : GM d mid as g Q := fun hW => h hW hW
theorem GMr.wf {d mid : Nat} {as : List GV} {g : GH} {Q : Option GV → GH → Prop} (h : GWf g → GMr d mid as g Q) : GMr d mid as g Q := fun hW => h hW hW
theorem GW.wf {d i : Nat} {M : GMeth} {ls : GL} {st : List GV} {g : GH} {Q : GO → GH → Prop} (h : GWf g → GW d M i ls st g Q) : GW d M i ls st g Q := fun hW => h hW hW
theorem gslots1 : ∀ (as : List GV), (∀ v ∈ as, gcat v = 1) → gslots as = as.map some := by
  intro as
  induction as with
  | nil => intro _; rfl
  | cons v as ih =>
    intro h
    show (if gcat v = 2 then [some v, none] else [some v]) ++ gslots as = some v :: as.map some
    rw [if_neg (by rw [h v List.mem_cons_self]; decide), ih (fun w hw => h w (List.mem_cons_of_mem _ hw))]; rfl
def g1s (as : List GV) : Bool := as.all (fun v => decide (gcat v = 1))
theorem GM.of {d mid : Nat} {M : GMeth} {as : List GV} {g : GH} {Q : GO → GH → Prop} (hM : gmt[mid]? = some M) (h1 : g1s as = true) (hn : Nat.ble as.length M.1 = true) (h : GW d M 0 (as.map some ++ List.replicate (M.1 - as.length) none) [] g Q) : GM (d + 1) mid as g Q := by
  intro hR
  obtain ⟨N, r, g', h1', h3, h2⟩ := h hR
  refine ⟨N, r, g', ?_, h3, h2⟩
  have e := gslots1 as (fun v hv => of_decide_eq_true (List.all_eq_true.mp h1 v hv))
  simp only [grun, hM]
  rw [e, if_pos (by rw [List.length_map]; exact Nat.le_of_ble_eq_true hn)]
  unfold gentry
  rw [e, List.length_map]
  exact h1'
theorem GM.ofl {d mid : Nat} {M : GMeth} {as : List GV} {g : GH} {Q : GO → GH → Prop} (hM : gmt[mid]? = some M) (hn : Nat.ble (gslots as).length M.1 = true) (h : GW d M 0 (gentry M.1 as) [] g Q) : GM (d + 1) mid as g Q := by
  intro hR
  obtain ⟨N, r, g', h1', h3, h2⟩ := h hR
  refine ⟨N, r, g', ?_, h3, h2⟩
  simp only [grun, hM]
  rw [if_pos (Nat.le_of_ble_eq_true hn)]
  exact h1'
/-- a cell of a class -/
def GAt (g : GH) (n c : Nat) : Prop := gcls g n = c ∧ 1000 ≤ n
def GHas (g : GH) (n F : Nat) : Prop := ghas (gcls g n) F = true ∧ (1000 ≤ n ∨ gkf F = true)
theorem GHas.at {g : GH} {n c F : Nat} (h : GAt g n c) (hF : ghas c F = true) : GHas g n F := ⟨by rw [h.1]; exact hF, Or.inl h.2⟩
theorem GHas.k {g : GH} {n c F : Nat} (h : gcls g n = c) (hF : ghas c F = true) (hk : gkf F = true) : GHas g n F := ⟨by rw [h]; exact hF, Or.inr hk⟩
theorem ghas_ne {g : GH} {n F : Nat} (h : GHas g n F) : gcls g n ≠ 0 := by
  intro e; have := h.1; rw [e] at this; cases this
section GWR
variable {d i a : Nat} {b : Int} {M : GMeth} {ls : GL} {st : List GV} {g : GH} {Q : GO → GH → Prop}
theorem GW.stepW {op i' : Nat} {ls' : GL} {st' : List GV} {g' : GH} (hC : M.2.2.1[i]? = some (op, a, b)) (ho : op < 60) (h : gstep i op a b ls st g = some (i', ls', st', g')) (hw : GWf g → GWf g') (k : GW d M i' ls' st' g' Q) : GW d M i ls st g Q := by
  intro hR
  obtain ⟨N, r, g2, h1, h3, h2⟩ := k (hw hR)
  refine ⟨N + 1, r, g2, ?_, h3, h2⟩
  simp only [gexec, hC, if_pos ho, h]
  exact gexec_mono (grun_mono (Nat.le_succ N) (Nat.le_refl d)) M N N _ _ _ _ _ (Nat.le_refl N) h1
theorem GW.step {op i' : Nat} {ls' : GL} {st' : List GV} (hC : M.2.2.1[i]? = some (op, a, b)) (ho : op < 60) (h : gstep i op a b ls st g = some (i', ls', st', g)) (k : GW d M i' ls' st' g Q) : GW d M i ls st g Q := GW.stepW hC ho h id k
/-- no long among the locals -/
def gnoL (ls : GL) : Bool := ls.all (fun v => match v with
  | some (.inr (.inl _)) => false
  | _ => true)
theorem gnoL_set {ls : GL} (h : gnoL ls = true) (a : Nat) (v : GV) : glset ls a v = ls.set a (some v) := by
  unfold glset
  cases a with
  | zero => rfl
  | succ k =>
    have : glong (ls.getD k none) = false := by
      rw [List.getD_eq_getElem?_getD]
      cases hk : ls[k]? with
      | none => rfl
      | some w =>
        have := List.all_eq_true.mp h w (List.mem_of_getElem? hk)
        show glong w = false
        cases w with
        | none => rfl
        | some w => rcases w with w | w | w <;> first | rfl | (cases this)
    show (if glong (ls.getD k none) = true then ls.set k none else ls).set (k + 1) (some v) = _
    rw [this]; rfl
/-- steps that need nothing -/
def gpl (i op a : Nat) (b : Int) (ls : GL) (st : List GV) : Option (Nat × GL × List GV) :=
  match op, st with
  | 0, st => some (i + 1, ls, .inl b :: st)
  | 1, st => match ls[a]? with
    | some (some (.inl x)) => some (i + 1, ls, .inl x :: st)
    | _ => none
  | 2, st => match ls[a]? with
    | some (some (.inr (.inr r))) => some (i + 1, ls, .inr (.inr r) :: st)
    | _ => none
  | 3, .inl x :: st => if gnoL ls = true ∧ a < ls.length then some (i + 1, ls.set a (some (.inl x)), st) else none
  | 4, .inr (.inr r) :: st => if gnoL ls = true ∧ a < ls.length then some (i + 1, ls.set a (some (.inr (.inr r))), st) else none
  | 5, st => match ls[a]? with
    | some (some (.inr (.inl x))) => some (i + 1, ls, .inr (.inl x) :: st)
    | _ => none
  | 18, .inl y :: .inl x :: st => match a with
    | 0 => some (i + 1, ls, .inl (x + y) :: st)
    | 1 => some (i + 1, ls, .inl (x - y) :: st)
    | 2 => some (i + 1, ls, .inl (x * y) :: st)
    | _ => none
  | 19, .inl x :: st => some (i + 1, ls, .inl (-x) :: st)
  | 21, .inr (.inl x) :: st => some (i + 1, ls, .inl (Int32.ofInt x).toInt :: st)
  | 27, st => some (a, ls, st)
  | 34, st => some (i + 1, ls, .inr (.inr none) :: st)
  | 35, st => match ls[a]? with
    | some (some (.inl x)) => if gnoL ls = true ∧ a < ls.length then some (i + 1, ls.set a (some (.inl (x + b))), st) else none
    | _ => none
  | 36, x :: st => if gcat x = 1 then some (i + 1, ls, x :: x :: st) else none
  | 37, y :: x :: st => if gcat x = 1 ∧ gcat y = 1 then some (i + 1, ls, y :: x :: y :: x :: st) else none
  | 38, x :: st => if gcat x = 1 then some (i + 1, ls, st) else none
  | 39, y :: x :: st => if gcat x = 1 ∧ gcat y = 1 then some (i + 1, ls, y :: x :: y :: st) else none
  | 40, st => some (i + 1, ls, .inl b :: st)
  | 41, st => some (i + 1, ls, .inl b :: st)
  | 42, st => some (i + 1, ls, .inr (.inl b) :: st)
  | 43, st => some (i + 1, ls, .inr (.inl b) :: st)
  | 44, st => some (i + 1, ls, .inr (.inr (some b.toNat)) :: st)
  | 45, st => some (i + 1, ls, .inl (gstatI.getD a 0) :: st)
  | 46, st => some (i + 1, ls, .inr (.inr (some (gstatR.getD a 0))) :: st)
  | 55, st => some (i + 1, ls, .inr (.inr (some b.toNat)) :: st)
  | 56, st => some (i + 1, ls, .inr (.inr (some 334)) :: st)
  | _, _ => none
theorem gst1 {x : Int} (h : ls[a]? = some (some (.inl x))) : gstep i 1 a b ls st g = some (i + 1, ls, .inl x :: st, g) := by
  show (match ls[a]? with | some (some (.inl x)) => some (i + 1, ls, (.inl x : GV) :: st, g) | _ => none) = _
  rw [h]
theorem gst2 {r : Option Nat} (h : ls[a]? = some (some (.inr (.inr r)))) : gstep i 2 a b ls st g = some (i + 1, ls, .inr (.inr r) :: st, g) := by
  show (match ls[a]? with | some (some (.inr (.inr r))) => some (i + 1, ls, (.inr (.inr r) : GV) :: st, g) | _ => none) = _
  rw [h]
theorem gst5 {x : Int} (h : ls[a]? = some (some (.inr (.inl x)))) : gstep i 5 a b ls st g = some (i + 1, ls, .inr (.inl x) :: st, g) := by
  show (match ls[a]? with | some (some (.inr (.inl x))) => some (i + 1, ls, (.inr (.inl x) : GV) :: st, g) | _ => none) = _
  rw [h]
theorem gst35 {x : Int} (h : ls[a]? = some (some (.inl x))) (hl : gnoL ls = true ∧ a < ls.length) : gstep i 35 a b ls st g = some (i + 1, ls.set a (some (.inl (x + b))), st, g) := by
  show (match ls[a]? with | some (some (.inl x)) => if a < ls.length then some (i + 1, glset ls a (.inl (x + b)), st, g) else none | _ => none) = _
  rw [h, ← gnoL_set hl.1]
  exact if_pos hl.2
theorem gst3 {x : Int} (hl : gnoL ls = true ∧ a < ls.length) : gstep i 3 a b ls (.inl x :: st) g = some (i + 1, ls.set a (some (.inl x)), st, g) := by
  rw [← gnoL_set hl.1]; exact if_pos hl.2
theorem gst4 {r : Option Nat} (hl : gnoL ls = true ∧ a < ls.length) : gstep i 4 a b ls (.inr (.inr r) :: st) g = some (i + 1, ls.set a (some (.inr (.inr r))), st, g) := by
  rw [← gnoL_set hl.1]; exact if_pos hl.2
theorem gpl_ok {op : Nat} {i' : Nat} {ls' : GL} {st' : List GV} (h : gpl i op a b ls st = some (i', ls', st')) : op < 60 ∧ gstep i op a b ls st g = some (i', ls', st', g) := by
  unfold gpl at h
  split at h
  all_goals first | (cases h; exact ⟨by decide, rfl⟩) | (cases h; done) | skip
  all_goals refine ⟨by decide, ?_⟩
  all_goals first
    | (split at h
       · rename_i hq; cases h; first | exact gst3 hq | exact gst4 hq | exact if_pos hq | exact gst1 hq | exact gst2 hq | exact gst5 hq | rfl
       · cases h)
    | (split at h
       · cases h; rfl
       · cases h; rfl
       · cases h; rfl
       · cases h)
    | (split at h
       · rename_i hq; split at h
         · rename_i hz; cases h; exact gst35 hq hz
         · cases h
       · cases h)
/-- stores beside longs -/
theorem GW.sti {x : Int} (hC : M.2.2.1[i]? = some (3, a, b)) (hl : Nat.ble (a + 1) ls.length = true) (k : GW d M (i + 1) (glset ls a (.inl x)) st g Q) : GW d M i ls (.inl x :: st) g Q := GW.step hC (by decide) (if_pos (Nat.le_of_ble_eq_true hl)) k
theorem GW.str {r : Option Nat} (hC : M.2.2.1[i]? = some (4, a, b)) (hl : Nat.ble (a + 1) ls.length = true) (k : GW d M (i + 1) (glset ls a (.inr (.inr r))) st g Q) : GW d M i ls (.inr (.inr r) :: st) g Q := GW.step hC (by decide) (if_pos (Nat.le_of_ble_eq_true hl)) k
theorem GW.stl {x : Int} (hC : M.2.2.1[i]? = some (6, a, b)) (hl : Nat.ble (a + 2) ls.length = true) (k : GW d M (i + 1) ((glset ls a (.inr (.inl x))).set (a + 1) none) st g Q) : GW d M i ls (.inr (.inl x) :: st) g Q := GW.step hC (by decide) (if_pos (Nat.le_of_ble_eq_true hl)) k
theorem GW.pl {op i' : Nat} {ls' : GL} {st' : List GV} (hC : M.2.2.1[i]? = some (op, a, b)) (h : gpl i op a b ls st = some (i', ls', st')) (k : GW d M i' ls' st' g Q) : GW d M i ls st g Q := GW.step hC (gpl_ok (g := g) h).1 (gpl_ok h).2 k
/-- fields -/
theorem GW.geti {n : Nat} {v : Int} (hC : M.2.2.1[i]? = some (7, a, b)) (hk : (gfk a == 4) = false) (hh : GHas g n a) (hv : gfi g a n = v) (k : inR v → GW d M (i + 1) ls (.inl v :: st) g Q) : GW d M i ls (.inr (.inr (some n)) :: st) g Q := by
  intro hR
  subst hv
  refine GW.step hC (by decide) ?_ (k (hR.2.1.1 a n)) hR
  refine (if_pos hh).trans ?_
  unfold gfv
  rw [if_neg (fun z => by rw [z] at hk; cases hk)]
theorem GW.getr {n : Nat} {v : Option Nat} (hC : M.2.2.1[i]? = some (7, a, b)) (hk : (gfk a == 4) = true) (hh : GHas g n a) (hv : gfr g a n = v) (k : GW d M (i + 1) ls (.inr (.inr v) :: st) g Q) : GW d M i ls (.inr (.inr (some n)) :: st) g Q := by
  subst hv
  refine GW.step hC (by decide) ?_ k
  refine (if_pos hh).trans ?_
  unfold gfv
  rw [if_pos (eq_of_beq hk)]
theorem GW.putx {n : Nat} {x : Int} (hC : M.2.2.1[i]? = some (8, a, b)) (hh : GHas g n a) (hn : 1000 ≤ n) (hf : gfit (gfk a) x) (k : GW d M (i + 1) ls st (gsfi g a n x) Q) : GW d M i ls (.inl x :: .inr (.inr (some n)) :: st) g Q := by
  refine GW.stepW hC (by decide) ?_ (fun hW => hW.fi hn (ghas_ne hh) ?_) k
  · exact if_pos ⟨hh.1, hn, hf⟩
  · rcases hf with h | h | h | h
    · exact h.2
    · rcases h.2 with h | h <;> rw [h] <;> decide
    · exact ⟨by omega, by omega⟩
    · exact ⟨by omega, by omega⟩
theorem GW.puti {n c : Nat} {x : Int} (hC : M.2.2.1[i]? = some (8, a, b)) (hk : gfk a = 0) (hA : GAt g n c) (hc : ghas c a = true) (hx : inR x) (k : GW d M (i + 1) ls st (gsfi g a n x) Q) : GW d M i ls (.inl x :: .inr (.inr (some n)) :: st) g Q :=
  GW.putx hC (GHas.at hA hc) hA.2 (Or.inl ⟨hk, hx⟩) k
theorem GW.putz {n c : Nat} {x : Int} (hC : M.2.2.1[i]? = some (8, a, b)) (hk : gfk a = 1) (hA : GAt g n c) (hc : ghas c a = true) (hx : x = 0 ∨ x = 1) (k : GW d M (i + 1) ls st (gsfi g a n x) Q) : GW d M i ls (.inl x :: .inr (.inr (some n)) :: st) g Q :=
  GW.putx hC (GHas.at hA hc) hA.2 (Or.inr (Or.inl ⟨hk, hx⟩)) k
theorem GW.putb {n c : Nat} {x : Int} (hC : M.2.2.1[i]? = some (8, a, b)) (hk : gfk a = 2) (hA : GAt g n c) (hc : ghas c a = true) (hx : -128 ≤ x ∧ x < 128) (k : GW d M (i + 1) ls st (gsfi g a n x) Q) : GW d M i ls (.inl x :: .inr (.inr (some n)) :: st) g Q :=
  GW.putx hC (GHas.at hA hc) hA.2 (Or.inr (Or.inr (Or.inl ⟨hk, hx.1, hx.2⟩))) k
theorem GW.putc {n c : Nat} {x : Int} (hC : M.2.2.1[i]? = some (8, a, b)) (hk : gfk a = 3) (hA : GAt g n c) (hc : ghas c a = true) (hx : 0 ≤ x ∧ x < 65536) (k : GW d M (i + 1) ls st (gsfi g a n x) Q) : GW d M i ls (.inl x :: .inr (.inr (some n)) :: st) g Q :=
  GW.putx hC (GHas.at hA hc) hA.2 (Or.inr (Or.inr (Or.inr ⟨hk, hx.1, hx.2⟩))) k
theorem GW.putr {n c : Nat} {r : Option Nat} (hC : M.2.2.1[i]? = some (8, a, b)) (hk : gfk a = 4) (hA : GAt g n c) (hc : ghas c a = true) (k : GW d M (i + 1) ls st (gsfr g a n r) Q) : GW d M i ls (.inr (.inr r) :: .inr (.inr (some n)) :: st) g Q := by
  refine GW.stepW hC (by decide) ?_ (fun hW => hW.fr hA.2 (ghas_ne (GHas.at hA hc))) k
  exact if_pos ⟨by rw [hA.1]; exact hc, hA.2, hk⟩
/-- arrays -/
theorem GW.iald {n L : Nat} {x v : Int} (hC : M.2.2.1[i]? = some (9, a, b)) (hA : GAt g n 100) (hl : glen g n = L) (hx : 0 ≤ x ∧ x < (L : Int)) (hv : gai g n x.toNat = v) (k : inR v → GW d M (i + 1) ls (.inl v :: st) g Q) : GW d M i ls (.inl x :: .inr (.inr (some n)) :: st) g Q := by
  intro hR
  subst hv hl
  refine GW.step hC (by decide) ?_ (k (hR.2.1.2.2.1 n _ (by rw [hA.1]; decide))) hR
  exact if_pos ⟨hA.1, hA.2, hx⟩
theorem GW.iast {n L : Nat} {x v : Int} (hC : M.2.2.1[i]? = some (10, a, b)) (hA : GAt g n 100) (hl : glen g n = L) (hx : 0 ≤ x ∧ x < (L : Int)) (hv : inR v) (k : GW d M (i + 1) ls st (gsai g n x.toNat v) Q) : GW d M i ls (.inl v :: .inl x :: .inr (.inr (some n)) :: st) g Q := by
  subst hl
  refine GW.stepW hC (by decide) ?_ (fun hW => hW.ai hA.2 (by have := hv; omega) (fun _ => hv) (fun z => by rw [hA.1] at z; cases z)) k
  exact if_pos ⟨hA.1, hA.2, hx, hv⟩
theorem GW.bald {n L : Nat} {x v : Int} (hC : M.2.2.1[i]? = some (11, a, b)) (hA : gcls g n = 101) (hl : glen g n = L) (hx : 0 ≤ x ∧ x < (L : Int)) (hv : gai g n x.toNat = v) (k : -128 ≤ v ∧ v < 128 → GW d M (i + 1) ls (.inl v :: st) g Q) : GW d M i ls (.inl x :: .inr (.inr (some n)) :: st) g Q := by
  intro hR
  subst hv hl
  refine GW.step hC (by decide) ?_ (k (hR.2.1.2.2.2.2 n _ hA)) hR
  exact if_pos ⟨hA, hx⟩
theorem GW.bast {n L : Nat} {x v : Int} (hC : M.2.2.1[i]? = some (12, a, b)) (hA : GAt g n 101) (hl : glen g n = L) (hx : 0 ≤ x ∧ x < (L : Int)) (hv : -128 ≤ v ∧ v < 128) (k : GW d M (i + 1) ls st (gsai g n x.toNat v) Q) : GW d M i ls (.inl v :: .inl x :: .inr (.inr (some n)) :: st) g Q := by
  subst hl
  refine GW.stepW hC (by decide) ?_ (fun hW => hW.ai hA.2 (by omega) (fun _ => by omega) (fun _ => hv)) k
  exact if_pos ⟨hA.1, hA.2, hx, hv⟩
theorem GW.lald {n L : Nat} {x v : Int} (hC : M.2.2.1[i]? = some (13, a, b)) (hA : GAt g n 102) (hl : glen g n = L) (hx : 0 ≤ x ∧ x < (L : Int)) (hv : gai g n x.toNat = v) (k : inL v → GW d M (i + 1) ls (.inr (.inl v) :: st) g Q) : GW d M i ls (.inl x :: .inr (.inr (some n)) :: st) g Q := by
  intro hR
  subst hv hl
  refine GW.step hC (by decide) ?_ (k (hR.2.1.2.1 n _)) hR
  exact if_pos ⟨hA.1, hA.2, hx⟩
theorem GW.last {n L : Nat} {x v : Int} (hC : M.2.2.1[i]? = some (14, a, b)) (hA : GAt g n 102) (hl : glen g n = L) (hx : 0 ≤ x ∧ x < (L : Int)) (hv : inL v) (k : GW d M (i + 1) ls st (gsai g n x.toNat v) Q) : GW d M i ls (.inr (.inl v) :: .inl x :: .inr (.inr (some n)) :: st) g Q := by
  subst hl
  refine GW.stepW hC (by decide) ?_ (fun hW => hW.ai hA.2 hv (fun z => absurd hA.1 z) (fun z => by rw [hA.1] at z; cases z)) k
  exact if_pos ⟨hA.1, hA.2, hx, hv⟩
theorem GW.aald {n L c : Nat} {x : Int} {v : Option Nat} (hC : M.2.2.1[i]? = some (15, a, b)) (hA : GAt g n c) (hc : 104 ≤ c ∧ c ≤ 107) (hl : glen g n = L) (hx : 0 ≤ x ∧ x < (L : Int)) (hv : gar g n x.toNat = v) (k : GW d M (i + 1) ls (.inr (.inr v) :: st) g Q) : GW d M i ls (.inl x :: .inr (.inr (some n)) :: st) g Q := by
  subst hv hl
  refine GW.step hC (by decide) ?_ k
  exact if_pos ⟨Or.inl ⟨by rw [hA.1]; exact hc.1, by rw [hA.1]; exact hc.2, hA.2⟩, hx⟩
/-- what may be laid into an array of references: null, an object into Object[], a String, a Line, a String[] -/
def gput (g : GH) (c : Nat) (r : Option Nat) : Prop := (r = none ∧ c ≤ 106) ∨ gasg c (gcls g (r.getD 0)) = true ∨ (c = 107 ∧ gcls g (r.getD 0) = 105 ∧ 1000 ≤ r.getD 0)
theorem GW.aast {n L c : Nat} {x : Int} {v : Option Nat} (hC : M.2.2.1[i]? = some (16, a, b)) (hA : GAt g n c) (hc : 104 ≤ c ∧ c ≤ 107) (hl : glen g n = L) (hx : 0 ≤ x ∧ x < (L : Int)) (hv : gput g c v) (k : GW d M (i + 1) ls st (gsar g n x.toNat v) Q) : GW d M i ls (.inr (.inr v) :: .inl x :: .inr (.inr (some n)) :: st) g Q := by
  subst hl
  refine GW.stepW hC (by decide) ?_ (fun hW => hW.ar hA.2) k
  have h := hA.1
  subst h
  exact if_pos ⟨⟨hc, hv⟩, hA.2, hx⟩
theorem GW.alen {n L c : Nat} (hC : M.2.2.1[i]? = some (17, a, b)) (hA : gcls g n = c) (hc : (Nat.ble 100 c && Nat.ble c 107 && !(c == 103)) = true) (hl : glen g n = L) (k : L < 65536 → GW d M (i + 1) ls (.inl (L : Int) :: st) g Q) : GW d M i ls (.inr (.inr (some n)) :: st) g Q := by
  intro hR
  subst hl
  refine GW.step hC (by decide) ?_ (k (hR.2.2.2.2 n)) hR
  simp only [Bool.and_eq_true, Bool.not_eq_true', beq_eq_false_iff_ne] at hc
  have h1 := Nat.le_of_ble_eq_true hc.1.1
  have h2 := Nat.le_of_ble_eq_true hc.1.2
  exact if_pos (by rw [hA]; rcases Nat.lt_or_ge n 1000 with h | h; exact Or.inr ⟨h1, h⟩; exact Or.inl ⟨h1, h2, hc.2, h⟩)
/-- ints -/
theorem GW.bin {x y z : Int} (hC : M.2.2.1[i]? = some (18, a, b)) (h : gbin a x y = some z) (k : GW d M (i + 1) ls (.inl z :: st) g Q) : GW d M i ls (.inl y :: .inl x :: st) g Q := by
  refine GW.step hC (by decide) ?_ k
  show (match gbin a x y with | some z => some (i + 1, ls, (.inl z : GV) :: st, g) | none => none) = _
  rw [h]
theorem GW.div {x y : Int} (hC : M.2.2.1[i]? = some (18, 3, b)) (hx : (0 ≤ x ∧ x < 2147483648) ∧ 0 < y ∧ y < 2147483648) (k : GW d M (i + 1) ls (.inl (x / y) :: st) g Q) : GW d M i ls (.inl y :: .inl x :: st) g Q := GW.bin hC (if_pos hx) k
theorem GW.rem {x y : Int} (hC : M.2.2.1[i]? = some (18, 4, b)) (hx : (0 ≤ x ∧ x < 2147483648) ∧ 0 < y ∧ y < 2147483648) (k : GW d M (i + 1) ls (.inl (x % y) :: st) g Q) : GW d M i ls (.inl y :: .inl x :: st) g Q := GW.bin hC (if_pos hx) k
theorem GW.i2l {x : Int} (hC : M.2.2.1[i]? = some (20, a, b)) (h : inR x) (k : GW d M (i + 1) ls (.inr (.inl x) :: st) g Q) : GW d M i ls (.inl x :: st) g Q := GW.step hC (by decide) (if_pos h) k
theorem GW.i2c {x : Int} (hC : M.2.2.1[i]? = some (22, a, b)) (h : 0 ≤ x ∧ x < 65536) (k : GW d M (i + 1) ls (.inl x :: st) g Q) : GW d M i ls (.inl x :: st) g Q := GW.step hC (by decide) (if_pos h) k
theorem GW.i2b {x : Int} (hC : M.2.2.1[i]? = some (23, a, b)) (h : -128 ≤ x ∧ x < 128) (k : GW d M (i + 1) ls (.inl x :: st) g Q) : GW d M i ls (.inl x :: st) g Q := GW.step hC (by decide) (if_pos h) k
theorem GW.land {x y : Int} (hC : M.2.2.1[i]? = some (24, 0, b)) (k : GW d M (i + 1) ls (.inr (.inl (Int64.ofInt x &&& Int64.ofInt y).toInt) :: st) g Q) : GW d M i ls (.inr (.inl y) :: .inr (.inl x) :: st) g Q := GW.step hC (by decide) rfl k
theorem GW.lor {x y : Int} (hC : M.2.2.1[i]? = some (24, 1, b)) (k : GW d M (i + 1) ls (.inr (.inl (Int64.ofInt x ||| Int64.ofInt y).toInt) :: st) g Q) : GW d M i ls (.inr (.inl y) :: .inr (.inl x) :: st) g Q := GW.step hC (by decide) rfl k
theorem GW.lshl {x y : Int} (hC : M.2.2.1[i]? = some (25, a, b)) (k : GW d M (i + 1) ls (.inr (.inl (Int64.ofInt x <<< ((Int32.ofInt y).toInt64 &&& 63)).toInt) :: st) g Q) : GW d M i ls (.inl y :: .inr (.inl x) :: st) g Q := GW.step hC (by decide) rfl k
theorem GW.lushr {x y : Int} (hC : M.2.2.1[i]? = some (26, a, b)) (k : GW d M (i + 1) ls (.inr (.inl ((Int64.ofInt x).toUInt64 >>> ((Int32.ofInt y).toInt64.toUInt64 &&& Int64.toUInt64 63)).toInt64.toInt) :: st) g Q) : GW d M i ls (.inl y :: .inr (.inl x) :: st) g Q := GW.step hC (by decide) rfl k
theorem GW.lcmp {x y : Int} (hC : M.2.2.1[i]? = some (54, a, b)) (h : inL x ∧ inL y) (k : GW d M (i + 1) ls (.inl (if x < y then -1 else if x = y then 0 else 1) :: st) g Q) : GW d M i ls (.inr (.inl y) :: .inr (.inl x) :: st) g Q := GW.step hC (by decide) (if_pos h) k
/-- branches: R what is needed, P where it jumps, N where not -/
def gbr (op : Nat) (b : Int) (st : List GV) : Option (Prop × Prop × Prop × List GV) := match op, st with
  | 28, .inl x :: st => match b with
    | 0 => some (inR x, x = 0, ¬ x = 0, st)
    | 1 => some (inR x, ¬ x = 0, x = 0, st)
    | 2 => some (inR x, x < 0, 0 ≤ x, st)
    | 3 => some (inR x, 0 ≤ x, x < 0, st)
    | 4 => some (inR x, 0 < x, x ≤ 0, st)
    | 5 => some (inR x, x ≤ 0, 0 < x, st)
    | _ => none
  | 29, .inl y :: .inl x :: st => match b with
    | 0 => some (inR x ∧ inR y, x = y, ¬ x = y, st)
    | 1 => some (inR x ∧ inR y, ¬ x = y, x = y, st)
    | 2 => some (inR x ∧ inR y, x < y, y ≤ x, st)
    | 3 => some (inR x ∧ inR y, y ≤ x, x < y, st)
    | 4 => some (inR x ∧ inR y, y < x, x ≤ y, st)
    | 5 => some (inR x ∧ inR y, x ≤ y, y < x, st)
    | _ => none
  | _, _ => none
theorem GW.cond1 {x : Int} (hC : M.2.2.1[i]? = some (28, a, b)) (hx : inR x) (kt : tcmp b x 0 = true → GW d M a ls st g Q) (kf : tcmp b x 0 = false → GW d M (i + 1) ls st g Q) : GW d M i ls (.inl x :: st) g Q := by
  cases h : tcmp b x 0 with
  | true => exact GW.step hC (by decide) ((if_pos hx).trans (by rw [h]; rfl)) (kt h)
  | false => exact GW.step hC (by decide) ((if_pos hx).trans (by rw [h]; rfl)) (kf h)
theorem GW.cond2 {x y : Int} (hC : M.2.2.1[i]? = some (29, a, b)) (hx : inR x ∧ inR y) (kt : tcmp b x y = true → GW d M a ls st g Q) (kf : tcmp b x y = false → GW d M (i + 1) ls st g Q) : GW d M i ls (.inl y :: .inl x :: st) g Q := by
  cases h : tcmp b x y with
  | true => exact GW.step hC (by decide) ((if_pos hx).trans (by rw [h]; rfl)) (kt h)
  | false => exact GW.step hC (by decide) ((if_pos hx).trans (by rw [h]; rfl)) (kf h)
theorem GW.br {op : Nat} {st' : List GV} {R P N : Prop} (hC : M.2.2.1[i]? = some (op, a, b)) (ht : gbr op b st = some (R, P, N, st')) (hR : R) (kt : P → GW d M a ls st' g Q) (kf : N → GW d M (i + 1) ls st' g Q) : GW d M i ls st g Q := by
  unfold gbr at ht
  split at ht
  · split at ht <;> cases ht
    all_goals exact GW.cond1 hC hR (fun h => kt (by simp [tcmp] at h; omega)) (fun h => kf (by simp [tcmp] at h; omega))
  · split at ht <;> cases ht
    all_goals exact GW.cond2 hC hR (fun h => kt (by simp [tcmp] at h; omega)) (fun h => kf (by simp [tcmp] at h; omega))
  · cases ht
def gnl9 (op a i : Nat) (r : Option Nat) : Option Nat := match op, r with
  | 30, none => some a
  | 30, some _ => some (i + 1)
  | 31, none => some (i + 1)
  | 31, some _ => some a
  | _, _ => none
/-- is it null: known -/
theorem GW.nul {op i' : Nat} {r : Option Nat} (hC : M.2.2.1[i]? = some (op, a, b)) (h : gnl9 op a i r = some i') (hk : gok g r = true) (k : GW d M i' ls st g Q) : GW d M i ls (.inr (.inr r) :: st) g Q := by
  unfold gnl9 at h
  split at h <;> cases h
  · exact GW.step hC (by decide) rfl k
  · exact GW.step hC (by decide) ((if_pos hk).trans (by rw [if_neg (fun z => by cases z)])) k
  · exact GW.step hC (by decide) rfl k
  · exact GW.step hC (by decide) ((if_pos hk).trans (by rw [if_neg (fun z => by cases z)])) k
theorem gok_c {n : Nat} (h : gcls g n ≠ 0) : gok g (some n) = true := decide_eq_true h
theorem gok_at {n c : Nat} (h : GAt g n c) (hc : (c == 0) = false) : gok g (some n) = true := decide_eq_true (by rw [h.1]; exact fun z => by rw [z] at hc; cases hc)
/-- the same reference? -/
theorem GW.aeq {r q : Option Nat} (hC : M.2.2.1[i]? = some (32, a, b)) (h : gcan2 g r q = true) (kt : r = q → GW d M a ls st g Q) (kf : r ≠ q → GW d M (i + 1) ls st g Q) : GW d M i ls (.inr (.inr q) :: .inr (.inr r) :: st) g Q := by
  by_cases z : r = q
  · exact GW.step hC (by decide) ((if_pos h).trans (by rw [if_pos z])) (kt z)
  · exact GW.step hC (by decide) ((if_pos h).trans (by rw [if_neg z])) (kf z)
theorem GW.ane {r q : Option Nat} (hC : M.2.2.1[i]? = some (33, a, b)) (h : gcan2 g r q = true) (kt : r ≠ q → GW d M a ls st g Q) (kf : r = q → GW d M (i + 1) ls st g Q) : GW d M i ls (.inr (.inr q) :: .inr (.inr r) :: st) g Q := by
  by_cases z : r = q
  · exact GW.step hC (by decide) ((if_pos h).trans (by rw [if_pos z])) (kf z)
  · exact GW.step hC (by decide) ((if_pos h).trans (by rw [if_neg z])) (kt z)
/-- new cells -/
theorem gnew_at {c L s q : Nat} (hq : q = gsz g) (hW : 1000 ≤ gsz g) : GAt (gnew g c L s) q c := ⟨if_pos hq, by omega⟩
theorem GW.new {L c : Nat} (hC : M.2.2.1[i]? = some (47, a, b)) (hL : (glay.getD a []).length = L) (hc : a + 1 = c) (k : ∀ q, q = gsz g → GAt (gnew g c 0 L) q c → GW d M (i + 1) ls (.inr (.inr (some q)) :: st) (gnew g c 0 L) Q) : GW d M i ls st g Q := by
  subst hL hc
  exact fun hR => GW.stepW hC (by decide) rfl (fun hW => hW.new (by decide)) (k _ rfl (gnew_at rfl hR.2.2.1)) hR
theorem GW.arr {op : Nat} {x : Int} (hC : M.2.2.1[i]? = some (op, a, b)) (ho : (op == 48 || op == 49) = true) (hx : 0 ≤ x ∧ x < 65536) (k : ∀ q, q = gsz g → GAt (gnew g a x.toNat x.toNat) q a → GW d M (i + 1) ls (.inr (.inr (some q)) :: st) (gnew g a x.toNat x.toNat) Q) : GW d M i ls (.inl x :: st) g Q := by
  have ho' : op = 48 ∨ op = 49 := by simpa using ho
  intro hR
  rcases ho' with rfl | rfl
  · exact GW.stepW hC (by decide) (if_pos hx) (fun hW => hW.new (by omega)) (k _ rfl (gnew_at rfl hR.2.2.1)) hR
  · exact GW.stepW hC (by decide) (if_pos hx) (fun hW => hW.new (by omega)) (k _ rfl (gnew_at rfl hR.2.2.1)) hR
theorem GW.cast {r : Option Nat} (hC : M.2.2.1[i]? = some (50, a, b)) (h : r = none ∨ ((gcasts.getD a []).contains (gcls g (r.getD 0)) = true ∧ (gcls g (r.getD 0) < 100 ∨ 1000 ≤ r.getD 0))) (k : GW d M (i + 1) ls (.inr (.inr r) :: st) g Q) : GW d M i ls (.inr (.inr r) :: st) g Q :=
  GW.step hC (by decide) (if_pos h) k
theorem gcast_at {n c a : Nat} (h : GAt g n c) (hc : (gcasts.getD a []).contains c = true) : (some n : Option Nat) = none ∨ ((gcasts.getD a []).contains (gcls g ((some n).getD 0)) = true ∧ (gcls g ((some n).getD 0) < 100 ∨ 1000 ≤ (some n).getD 0)) := Or.inr ⟨by rw [show gcls g ((some n).getD 0) = c from h.1]; exact hc, Or.inr h.2⟩
theorem gcast_c {n c a : Nat} (h : gcls g n = c) (hc : (gcasts.getD a []).contains c = true) (h1 : Nat.ble c 99 = true) : (some n : Option Nat) = none ∨ ((gcasts.getD a []).contains (gcls g ((some n).getD 0)) = true ∧ (gcls g ((some n).getD 0) < 100 ∨ 1000 ≤ (some n).getD 0)) := Or.inr ⟨by rw [show gcls g ((some n).getD 0) = c from h]; exact hc, Or.inl (by rw [show gcls g ((some n).getD 0) = c from h]; have := Nat.le_of_ble_eq_true h1; omega)⟩
theorem GW.isS {n : Nat} (hC : M.2.2.1[i]? = some (51, a, b)) (h : gcls g n = 13) (k : GW d M (i + 1) ls (.inl 1 :: st) g Q) : GW d M i ls (.inr (.inr (some n)) :: st) g Q := GW.step hC (by decide) (if_pos h) k
theorem GW.sw {op i' : Nat} {x : Int} (hC : M.2.2.1[i]? = some (op, a, b)) (ho : (op == 52 || op == 53) = true) (hx : inR x) (h : gswt (gsws.getD a (0, 0, [])) x = i') (k : GW d M i' ls st g Q) : GW d M i ls (.inl x :: st) g Q := by
  subst h
  have ho' : op = 52 ∨ op = 53 := by simpa using ho
  rcases ho' with rfl | rfl
  · exact GW.step hC (by decide) (if_pos hx) k
  · exact GW.step hC (by decide) (if_pos hx) k
/-- ends -/
theorem GW.ret (hC : M.2.2.1[i]? = some (65, a, b)) (hk : M.2.1 = 0) (h : Q (.inl none) g) : GW d M i ls [] g Q := fun hW => ⟨1, _, g, by simp only [gexec, hC]; rw [if_neg (by decide), if_pos hk], hW, h⟩
theorem GW.aret {r : Option Nat} (hC : M.2.2.1[i]? = some (64, a, b)) (hk : M.2.1 = 5) (h : Q (.inl (some (.inr (.inr r)))) g) : GW d M i ls [.inr (.inr r)] g Q := fun hW => ⟨1, _, g, by simp only [gexec, hC]; rw [if_neg (by decide), if_pos hk], hW, h⟩
theorem GW.irx {x : Int} (hC : M.2.2.1[i]? = some (63, a, b)) (hk : gretok M.2.1 x) (h : Q (.inl (some (.inl x))) g) : GW d M i ls [.inl x] g Q := fun hW => ⟨1, _, g, by simp only [gexec, hC]; rw [if_neg (by decide), if_pos hk], hW, h⟩
theorem GW.ir1 {x : Int} (hC : M.2.2.1[i]? = some (63, a, b)) (hk : M.2.1 = 1) (hx : inR x) (h : Q (.inl (some (.inl x))) g) : GW d M i ls [.inl x] g Q := GW.irx hC (Or.inl ⟨hk, hx⟩) h
theorem GW.ir2 {x : Int} (hC : M.2.2.1[i]? = some (63, a, b)) (hk : M.2.1 = 2) (hx : x = 0 ∨ x = 1) (h : Q (.inl (some (.inl x))) g) : GW d M i ls [.inl x] g Q := GW.irx hC (Or.inr (Or.inl ⟨hk, hx⟩)) h
theorem GW.ir3 {x : Int} (hC : M.2.2.1[i]? = some (63, a, b)) (hk : M.2.1 = 3) (hx : 0 ≤ x ∧ x < 65536) (h : Q (.inl (some (.inl x))) g) : GW d M i ls [.inl x] g Q := GW.irx hC (Or.inr (Or.inr (Or.inl ⟨hk, hx.1, hx.2⟩))) h
theorem GW.ir4 {x : Int} (hC : M.2.2.1[i]? = some (63, a, b)) (hk : M.2.1 = 4) (hx : -128 ≤ x ∧ x < 128) (h : Q (.inl (some (.inl x))) g) : GW d M i ls [.inl x] g Q := GW.irx hC (Or.inr (Or.inr (Or.inr ⟨hk, hx.1, hx.2⟩))) h
theorem GW.thr {n : Nat} (hC : M.2.2.1[i]? = some (62, a, b)) (hn : (gcls g n = 5 ∨ gcls g n = 11) ∧ 1000 ≤ n) (hh : ghnd M.2.2.2 i = none) (h : Q (.inr (gcls g n, some n)) g) : GW d M i ls (.inr (.inr (some n)) :: st) g Q := fun hW => ⟨1, _, g, by simp only [gexec, hC]; rw [if_neg (by decide), if_pos ⟨hn.1, hn.2, hh⟩], hW, h⟩
/-- a throw of the library's exceptions -/
def gxc (g : GH) : GH := (g.1, g.2.1, g.2.2.1, g.2.2.2.1, g.2.2.2.2.1, g.2.2.2.2.2.1, gsz g + 1, gnc g + 1, gns g + 6)
theorem GW.thx (hC : M.2.2.1[i]? = some (61, a, b)) (hh : ghnd M.2.2.2 i = none) (hab : (a = 200 ∧ b = 70) ∨ (a = 201 ∧ b = 73) ∨ (a = 202 ∧ b = 67)) (hs : (st.map gcat).sum ≤ 8) (h : Q (.inr (a, none)) (gxc g)) : GW d M i ls st g Q := fun hW => ⟨1, _, gxc g, by
  simp only [gexec, hC]
  rw [if_neg (by decide), hh]
  dsimp only
  rw [if_pos ⟨hab, hs⟩]; rfl, ⟨hW.1, hW.2.1, Nat.le_succ_of_le hW.2.2.1, fun n hn => hW.2.2.2.1 n (Nat.le_of_succ_le hn), hW.2.2.2.2⟩, h⟩
theorem GW.stepX {op i' : Nat} {st' : List GV} {g' : GH} (hC : M.2.2.1[i]? = some (op, a, b)) (hx : ∀ (f : GC) (N : Nat), gexec f M (N + 1) i ls st g = gexec f M N i' ls st' g') (hw : GWf g → GWf g') (k : GW d M i' ls st' g' Q) : GW d M i ls st g Q := by
  intro hR
  obtain ⟨N, r, g2, h1, h3, h2⟩ := k (hw hR)
  refine ⟨N + 1, r, g2, ?_, h3, h2⟩
  rw [hx]
  exact gexec_mono (grun_mono (Nat.le_succ N) (Nat.le_refl d)) M N N _ _ _ _ _ (Nat.le_refl N) h1
/-- Object.<init> -/
theorem GW.oini {n : Nat} (hC : M.2.2.1[i]? = some (66, a, b)) (hn : 1000 ≤ n) (hs : (st.map gcat).sum ≤ 8) (k : GW d M (i + 1) ls st g Q) : GW d M i ls (.inr (.inr (some n)) :: st) g Q :=
  GW.stepX hC (fun f N => by simp only [gexec, hC]; rw [if_neg (by decide), if_pos ⟨hn, hs⟩]) id k
theorem GW.getc {n : Nat} (hC : M.2.2.1[i]? = some (69, a, b)) (hn : GAt g n 104) (hs : (st.map gcat).sum ≤ 8) (k : GW d M (i + 1) ls (.inr (.inr (some 334)) :: st) g Q) : GW d M i ls (.inr (.inr (some n)) :: st) g Q :=
  GW.stepX hC (fun f N => by simp only [gexec, hC]; rw [if_neg (by decide), if_pos ⟨hs, hn.2, hn.1⟩]) id k
theorem GW.max {x y : Int} (hC : M.2.2.1[i]? = some (70, a, b)) (hs : (st.map gcat).sum ≤ 8) (hx : inR x ∧ inR y) {v : Int} (hv : (if x < y then y else x) = v) (k : GW d M (i + 1) ls (.inl v :: st) g Q) : GW d M i ls (.inl y :: .inl x :: st) g Q := by
  subst hv; exact GW.stepX hC (fun f N => by simp only [gexec, hC]; rw [if_neg (by decide), if_pos ⟨hs, hx⟩]) id k
theorem GW.min {x y : Int} (hC : M.2.2.1[i]? = some (71, a, b)) (hs : (st.map gcat).sum ≤ 8) (hx : inR x ∧ inR y) {v : Int} (hv : (if y < x then y else x) = v) (k : GW d M (i + 1) ls (.inl v :: st) g Q) : GW d M i ls (.inl y :: .inl x :: st) g Q := by
  subst hv; exact GW.stepX hC (fun f N => by simp only [gexec, hC]; rw [if_neg (by decide), if_pos ⟨hs, hx⟩]) id k
/-- elements of one array laid into another -/
def gcpi (g : GH) (s d : Nat) (sp dp n : Int) : GH := (g.1, g.2.1, g.2.2.1, g.2.2.2.1, (fun m => if m = d then gcpy (gai g s) (gai g d) sp.toNat dp.toNat n.toNat else gai g m), g.2.2.2.2.2)
def gcpr (g : GH) (s d : Nat) (sp dp n : Int) : GH := (g.1, g.2.1, g.2.2.1, g.2.2.2.1, g.2.2.2.2.1, (fun m => if m = d then gcpy (gar g s) (gar g d) sp.toNat dp.toNat n.toNat else gar g m), g.2.2.2.2.2.2)
theorem GWf.cpi {s d : Nat} {sp dp n : Int} (h : GWf g) (hd : 1000 ≤ d) (he : gcls g d = gcls g s) : GWf (gcpi g s d sp dp n) := by
  obtain ⟨h1, ⟨h2, h3, h4, h5, h6⟩, h7, h8, h9⟩ := id h
  have key : ∀ (P : Int → Prop) m k, (∀ k, P (gai g m k)) → (m = d → ∀ k, P (gai g s k)) → P (gai (gcpi g s d sp dp n) m k) := by
    intro P m k p1 p2
    show P ((if m = d then gcpy (gai g s) (gai g d) sp.toNat dp.toNat n.toNat else gai g m) k)
    by_cases z : m = d
    · rw [if_pos z]
      unfold gcpy
      split
      · exact p2 z _
      · exact z ▸ p1 k
    · rw [if_neg z]; exact p1 k
  refine ⟨fun m hm => ?_, ⟨h2, fun m k => key _ m k (h3 m) (fun _ => h3 s), fun m k hk => key _ m k (fun k => h4 m k hk) (fun z k => h4 s k (by rw [← he, ← z]; exact hk)), h5, fun m k hk => key (fun x => -128 ≤ x ∧ x < 128) m k (fun k => h6 m k hk) (fun z k => h6 s k (by rw [← he, ← z]; exact hk))⟩, h7, h8, h9⟩
  obtain ⟨a1, a2, a3, a4, a5⟩ := h1 m hm
  refine ⟨a1, a2, a3, fun k => ?_, a5⟩
  show (if m = d then gcpy (gai g s) (gai g d) sp.toNat dp.toNat n.toNat else gai g m) k = _
  rw [if_neg (by omega)]; exact a4 k
theorem GWf.cpr {s d : Nat} {sp dp n : Int} (h : GWf g) (hd : 1000 ≤ d) : GWf (gcpr g s d sp dp n) := by
  obtain ⟨h1, h2, h7, h8, h9⟩ := id h
  refine ⟨fun m hm => ?_, h2, h7, h8, h9⟩
  obtain ⟨a1, a2, a3, a4, a5⟩ := h1 m hm
  refine ⟨a1, a2, a3, a4, fun k => ?_⟩
  show (if m = d then gcpy (gar g s) (gar g d) sp.toNat dp.toNat n.toNat else gar g m) k = _
  rw [if_neg (by omega)]; exact a5 k
theorem GW.cpi {s dd c : Nat} {sp dp n : Int} (hC : M.2.2.1[i]? = some (67, a, b)) (hd : GAt g dd c) (he : gcls g s = c) (hc : c = 101 ∨ (c = 102 ∧ 1000 ≤ s)) (hs : (st.map gcat).sum ≤ 8) (hx : 0 ≤ n ∧ 0 ≤ sp ∧ 0 ≤ dp ∧ sp + n ≤ (glen g s : Int) ∧ dp + n ≤ (glen g dd : Int)) (k : GW d M (i + 1) ls st (gcpi g s dd sp dp n) Q) : GW d M i ls (.inl n :: .inl dp :: .inr (.inr (some dd)) :: .inl sp :: .inr (.inr (some s)) :: st) g Q := by
  subst he
  refine GW.stepX hC (fun f N => ?_) (fun hW => hW.cpi hd.2 hd.1) k
  simp only [gexec, hC]
  rw [if_neg (by decide), if_pos ⟨hs, hd.2, hd.1, hx, by rcases hc with h | h; exact Or.inl h; exact Or.inr (Or.inl ⟨h.2, h.1⟩)⟩, if_neg (by omega)]
  rfl
theorem GW.cpr {s dd : Nat} {sp dp n : Int} (hC : M.2.2.1[i]? = some (67, a, b)) (hd : GAt g dd 104) (he : GAt g s 104) (hs : (st.map gcat).sum ≤ 8) (hx : 0 ≤ n ∧ 0 ≤ sp ∧ 0 ≤ dp ∧ sp + n ≤ (glen g s : Int) ∧ dp + n ≤ (glen g dd : Int)) (hv : ∀ k, k < n.toNat → gokO g (gar g s (sp.toNat + k)) = true) (k : GW d M (i + 1) ls st (gcpr g s dd sp dp n) Q) : GW d M i ls (.inl n :: .inl dp :: .inr (.inr (some dd)) :: .inl sp :: .inr (.inr (some s)) :: st) g Q := by
  refine GW.stepX hC (fun f N => ?_) (fun hW => hW.cpr hd.2) k
  simp only [gexec, hC]
  rw [if_neg (by decide), if_pos ⟨hs, hd.2, by rw [hd.1, he.1], hx, Or.inr (Or.inr ⟨he.2, he.1, hv⟩)⟩, if_pos he.1]
  rfl
def gcl9 (g : GH) (a s : Nat) : GH := let h := gnew g a (glen g s) (glen g s); (h.1, h.2.1, h.2.2.1, h.2.2.2.1, (fun m => if m = gsz g then gai g s else gai g m), h.2.2.2.2.2)
theorem GWf.cl {s : Nat} (h : GWf g) : GWf (gcl9 g (gcls g s) s) := by
  obtain ⟨h1, ⟨h2, h3, h4, h5, h6⟩, h7, h8, h9⟩ := h.new (c := gcls g s) (L := glen g s) (s := glen g s) (h.2.2.2.2 s)
  have key : ∀ (P : Int → Prop) m k, (m ≠ gsz g → ∀ k, P (gai g m k)) → (m = gsz g → ∀ k, P (gai g s k)) → P (gai (gcl9 g (gcls g s) s) m k) := by
    intro P m k p1 p2
    show P ((if m = gsz g then gai g s else gai g m) k)
    by_cases z : m = gsz g
    · rw [if_pos z]; exact p2 z _
    · rw [if_neg z]; exact p1 z k
  refine ⟨fun m hm => ?_, ⟨h2, fun m k => key _ m k (fun _ => h.2.1.2.1 m) (fun _ => h.2.1.2.1 s), fun m k hk => key _ m k (fun z k => h.2.1.2.2.1 m k ?_) (fun z k => h.2.1.2.2.1 s k ?_), h5, fun m k hk => key (fun x => -128 ≤ x ∧ x < 128) m k (fun z k => h.2.1.2.2.2.2 m k ?_) (fun z k => h.2.1.2.2.2.2 s k ?_)⟩, h7, h8, h9⟩
  · obtain ⟨a1, a2, a3, a4, a5⟩ := h1 m hm
    refine ⟨a1, a2, a3, fun k => ?_, a5⟩
    show (if m = gsz g then gai g s else gai g m) k = _
    have := h.2.2.1
    rw [if_neg (by omega)]; exact (h.1 m hm).2.2.2.1 k
  · have hk : (if m = gsz g then gcls g s else gcls g m) ≠ 102 := hk
    rw [if_neg z] at hk; exact hk
  · have hk : (if m = gsz g then gcls g s else gcls g m) ≠ 102 := hk
    rw [if_pos z] at hk; exact hk
  · have hk : (if m = gsz g then gcls g s else gcls g m) = 101 := hk
    rw [if_neg z] at hk; exact hk
  · have hk : (if m = gsz g then gcls g s else gcls g m) = 101 := hk
    rw [if_pos z] at hk; exact hk
theorem GW.cln {s : Nat} (hC : M.2.2.1[i]? = some (68, a, b)) (hA : GAt g s a) (hs : (st.map gcat).sum ≤ 8) (k : ∀ q, q = gsz g → GW d M (i + 1) ls (.inr (.inr (some q)) :: st) (gcl9 g a s) Q) : GW d M i ls (.inr (.inr (some s)) :: st) g Q := by
  have h := hA.1
  subst h
  refine GW.stepX hC (fun f N => ?_) (fun hW => hW.cl) (k _ rfl)
  simp only [gexec, hC]
  rw [if_neg (by decide), if_pos ⟨hs, hA.2, trivial⟩]
  rfl
/-- calls -/
theorem GW.call {kind mid tag num : Nat} {as rest : List GV} {Q1 : GO → GH → Prop} (hC : M.2.2.1[i]? = some (60, a, b)) (hs : gsites[a]? = some (kind, mid, tag, num)) (hn : as.length = num) (hst : st = as.reverse ++ rest) (hr : (rest.map gcat).sum ≤ 8) (htag : tag = 0 ∨ grecv g tag as.head? = true) (hin : (kind ≠ 4 ∧ kind ≠ 11) ∨ gnewv as.head? = true) (h : GM d mid as g Q1)
    (k : ∀ r g', Q1 (.inl r) g' → GW d M (i + 1) ls (r.toList ++ rest) g' Q)
    (kx : ∀ E q g', Q1 (.inr (E, q)) g' → (ghnd M.2.2.2 i = none ∧ Q (.inr (E, q)) g') ∨ ∃ h n, ghnd M.2.2.2 i = some (h, E) ∧ q = some n ∧ GW d M h ls [.inr (.inr (some n))] g' Q) : GW d M i ls st g Q := by
  intro hR
  obtain ⟨N1, r, g1, h1, hw1, h2⟩ := h hR
  have ht : (as.reverse ++ rest).take num = as.reverse := by rw [← hn, ← List.length_reverse, List.take_left']; rfl
  have hd : (as.reverse ++ rest).drop num = rest := by rw [← hn, ← List.length_reverse, List.drop_left']; rfl
  subst hst
  have hg : num ≤ (as.reverse ++ rest).length ∧ (rest.map gcat).sum ≤ 8 ∧ (tag = 0 ∨ grecv g tag as.reverse.reverse.head? = true) ∧ ((kind ≠ 4 ∧ kind ≠ 11) ∨ gnewv as.reverse.reverse.head? = true) := by
    rw [List.reverse_reverse]; exact ⟨by simp; omega, hr, htag, hin⟩
  rcases r with r | ⟨E, q⟩
  · obtain ⟨N2, r2, g2, h3, hw2, h4⟩ := k r g1 h2 hw1
    refine ⟨Max.max N1 N2 + 1, r2, g2, ?_, hw2, h4⟩
    have hc : grun d (Max.max N1 N2 + 1) mid as g = some (.inl r, g1) := grun_mono (by omega) (Nat.le_refl d) _ _ _ _ h1
    simp only [gexec, hC, hs, ht, hd]
    rw [if_neg (by decide), if_pos hg, List.reverse_reverse, hc]
    exact gexec_mono (grun_mono (by omega) (Nat.le_refl d)) M N2 _ _ _ _ _ _ (by omega) h3
  · rcases kx E q g1 h2 with ⟨hh, hq⟩ | ⟨hd1, n, hh, hqn, kk⟩
    · refine ⟨N1 + 1, .inr (E, q), g1, ?_, hw1, hq⟩
      have hc : grun d (N1 + 1) mid as g = some (.inr (E, q), g1) := grun_mono (by omega) (Nat.le_refl d) _ _ _ _ h1
      simp only [gexec, hC, hs, ht, hd]
      rw [if_neg (by decide), if_pos hg, List.reverse_reverse, hc, hh]
    · subst hqn
      obtain ⟨N2, r2, g2, h3, hw2, h4⟩ := kk hw1
      refine ⟨Max.max N1 N2 + 1, r2, g2, ?_, hw2, h4⟩
      have hc : grun d (Max.max N1 N2 + 1) mid as g = some (.inr (E, some n), g1) := grun_mono (by omega) (Nat.le_refl d) _ _ _ _ h1
      simp only [gexec, hC, hs, ht, hd]
      rw [if_neg (by decide), if_pos hg, List.reverse_reverse, hc, hh]
      dsimp only
      rw [if_pos rfl]
      exact gexec_mono (grun_mono (by omega) (Nat.le_refl d)) M N2 _ _ _ _ _ _ (by omega) h3
theorem grecv_at {n c : Nat} (h : GAt g n c) : grecv g c (some (.inr (.inr (some n)))) = true := decide_eq_true h.1
theorem gnewv_at {n c : Nat} (h : GAt g n c) : gnewv (some (.inr (.inr (some n)))) = true := decide_eq_true h.2
theorem grecv_c {n c : Nat} (h : gcls g n = c) : grecv g c (some (.inr (.inr (some n)))) = true := decide_eq_true h
theorem gnewv_c {n : Nat} (h : 1000 ≤ n) : gnewv (some (.inr (.inr (some n)))) = true := decide_eq_true h
/-- calls that return, by their number of values -/
theorem GW.cr {kind mid tag num : Nat} {as rest : List GV} {Q1 : Option GV → GH → Prop} (hC : M.2.2.1[i]? = some (60, a, b)) (hs : gsites[a]? = some (kind, mid, tag, num)) (hn : as.length = num) (hst : st = as.reverse ++ rest) (hr : Nat.ble ((rest.map gcat).sum) 8 = true) (htag : tag = 0 ∨ grecv g tag as.head? = true) (hin : (kind ≠ 4 ∧ kind ≠ 11) ∨ gnewv as.head? = true) (h : GMr d mid as g Q1)
    (k : ∀ r g', Q1 r g' → GW d M (i + 1) ls (r.toList ++ rest) g' Q) : GW d M i ls st g Q :=
  GW.call hC hs hn hst (Nat.le_of_ble_eq_true hr) htag hin h (fun r g' ⟨v, e, q⟩ => by cases e; exact k _ _ q) (fun E q g' ⟨v, e, _⟩ => by cases e)
theorem GW.c0 {kind mid tag : Nat} {Q1 : Option GV → GH → Prop} (hC : M.2.2.1[i]? = some (60, a, b)) (hs : gsites[a]? = some (kind, mid, tag, 0)) (htag : tag = 0 ∨ grecv g tag none = true) (hin : (kind ≠ 4 ∧ kind ≠ 11) ∨ gnewv none = true) (hr : Nat.ble ((st.map gcat).sum) 8 = true) (h : GMr d mid [] g Q1) (k : ∀ r g', Q1 r g' → GW d M (i + 1) ls (r.toList ++ st) g' Q) : GW d M i ls st g Q := GW.cr (as := []) hC hs rfl rfl hr htag hin h k
theorem GW.c1 {kind mid tag : Nat} {v0 : GV} {Q1 : Option GV → GH → Prop} (hC : M.2.2.1[i]? = some (60, a, b)) (hs : gsites[a]? = some (kind, mid, tag, 1)) (htag : tag = 0 ∨ grecv g tag (some v0) = true) (hin : (kind ≠ 4 ∧ kind ≠ 11) ∨ gnewv (some v0) = true) (hr : Nat.ble ((st.map gcat).sum) 8 = true) (h : GMr d mid [v0] g Q1) (k : ∀ r g', Q1 r g' → GW d M (i + 1) ls (r.toList ++ st) g' Q) : GW d M i ls (v0 :: st) g Q := GW.cr (as := [v0]) hC hs rfl rfl hr htag hin h k
theorem GW.c2 {kind mid tag : Nat} {v0 v1 : GV} {Q1 : Option GV → GH → Prop} (hC : M.2.2.1[i]? = some (60, a, b)) (hs : gsites[a]? = some (kind, mid, tag, 2)) (htag : tag = 0 ∨ grecv g tag (some v0) = true) (hin : (kind ≠ 4 ∧ kind ≠ 11) ∨ gnewv (some v0) = true) (hr : Nat.ble ((st.map gcat).sum) 8 = true) (h : GMr d mid [v0, v1] g Q1) (k : ∀ r g', Q1 r g' → GW d M (i + 1) ls (r.toList ++ st) g' Q) : GW d M i ls (v1 :: v0 :: st) g Q := GW.cr (as := [v0, v1]) hC hs rfl rfl hr htag hin h k
theorem GW.c3 {kind mid tag : Nat} {v0 v1 v2 : GV} {Q1 : Option GV → GH → Prop} (hC : M.2.2.1[i]? = some (60, a, b)) (hs : gsites[a]? = some (kind, mid, tag, 3)) (htag : tag = 0 ∨ grecv g tag (some v0) = true) (hin : (kind ≠ 4 ∧ kind ≠ 11) ∨ gnewv (some v0) = true) (hr : Nat.ble ((st.map gcat).sum) 8 = true) (h : GMr d mid [v0, v1, v2] g Q1) (k : ∀ r g', Q1 r g' → GW d M (i + 1) ls (r.toList ++ st) g' Q) : GW d M i ls (v2 :: v1 :: v0 :: st) g Q := GW.cr (as := [v0, v1, v2]) hC hs rfl rfl hr htag hin h k
theorem GW.c4 {kind mid tag : Nat} {v0 v1 v2 v3 : GV} {Q1 : Option GV → GH → Prop} (hC : M.2.2.1[i]? = some (60, a, b)) (hs : gsites[a]? = some (kind, mid, tag, 4)) (htag : tag = 0 ∨ grecv g tag (some v0) = true) (hin : (kind ≠ 4 ∧ kind ≠ 11) ∨ gnewv (some v0) = true) (hr : Nat.ble ((st.map gcat).sum) 8 = true) (h : GMr d mid [v0, v1, v2, v3] g Q1) (k : ∀ r g', Q1 r g' → GW d M (i + 1) ls (r.toList ++ st) g' Q) : GW d M i ls (v3 :: v2 :: v1 :: v0 :: st) g Q := GW.cr (as := [v0, v1, v2, v3]) hC hs rfl rfl hr htag hin h k
theorem GW.c5 {kind mid tag : Nat} {v0 v1 v2 v3 v4 : GV} {Q1 : Option GV → GH → Prop} (hC : M.2.2.1[i]? = some (60, a, b)) (hs : gsites[a]? = some (kind, mid, tag, 5)) (htag : tag = 0 ∨ grecv g tag (some v0) = true) (hin : (kind ≠ 4 ∧ kind ≠ 11) ∨ gnewv (some v0) = true) (hr : Nat.ble ((st.map gcat).sum) 8 = true) (h : GMr d mid [v0, v1, v2, v3, v4] g Q1) (k : ∀ r g', Q1 r g' → GW d M (i + 1) ls (r.toList ++ st) g' Q) : GW d M i ls (v4 :: v3 :: v2 :: v1 :: v0 :: st) g Q := GW.cr (as := [v0, v1, v2, v3, v4]) hC hs rfl rfl hr htag hin h k
theorem GW.c6 {kind mid tag : Nat} {v0 v1 v2 v3 v4 v5 : GV} {Q1 : Option GV → GH → Prop} (hC : M.2.2.1[i]? = some (60, a, b)) (hs : gsites[a]? = some (kind, mid, tag, 6)) (htag : tag = 0 ∨ grecv g tag (some v0) = true) (hin : (kind ≠ 4 ∧ kind ≠ 11) ∨ gnewv (some v0) = true) (hr : Nat.ble ((st.map gcat).sum) 8 = true) (h : GMr d mid [v0, v1, v2, v3, v4, v5] g Q1) (k : ∀ r g', Q1 r g' → GW d M (i + 1) ls (r.toList ++ st) g' Q) : GW d M i ls (v5 :: v4 :: v3 :: v2 :: v1 :: v0 :: st) g Q := GW.cr (as := [v0, v1, v2, v3, v4, v5]) hC hs rfl rfl hr htag hin h k
end GWR
