set_option maxRecDepth 100000
/-! LINKEDLIST: its nodes ns, its items xs -/
def pv (ns : List Nat) (i : Nat) : Option Nat := if i = 0 then none else ns[i - 1]?
def insA {α : Type} (ns : List α) (k : Nat) (q : α) : List α := ns.take k ++ q :: ns.drop k
def delA {α : Type} (ns : List α) (k : Nat) : List α := ns.take k ++ ns.drop (k + 1)
theorem insA_len {α : Type} {ns : List α} {k : Nat} {q : α} (hk : k ≤ ns.length) : (insA ns k q).length = ns.length + 1 := by
  unfold insA; rw [List.length_append, List.length_take, List.length_cons, List.length_drop]; omega
theorem insA_get {α : Type} {ns : List α} {k : Nat} {q : α} (hk : k ≤ ns.length) (i : Nat) : (insA ns k q)[i]? = if i < k then ns[i]? else if i = k then some q else ns[i - 1]? := by
  have hl : (ns.take k).length = k := by rw [List.length_take]; omega
  unfold insA
  by_cases c1 : i < k
  · rw [if_pos c1, List.getElem?_append_left (by omega), List.getElem?_take_of_lt c1]
  · rw [if_neg c1, List.getElem?_append_right (by omega), hl]
    by_cases c2 : i = k
    · rw [if_pos c2, c2, Nat.sub_self]; rfl
    · rw [if_neg c2, show i - k = (i - k - 1) + 1 by omega, List.getElem?_cons_succ, List.getElem?_drop]
      congr 1; omega
theorem delA_len {α : Type} {ns : List α} {k : Nat} (hk : k < ns.length) : (delA ns k).length = ns.length - 1 := by
  unfold delA; rw [List.length_append, List.length_take, List.length_drop]; omega
theorem delA_get {α : Type} {ns : List α} {k : Nat} (hk : k < ns.length) (i : Nat) : (delA ns k)[i]? = if i < k then ns[i]? else ns[i + 1]? := by
  have hl : (ns.take k).length = k := by rw [List.length_take]; omega
  unfold delA
  by_cases c1 : i < k
  · rw [if_pos c1, List.getElem?_append_left (by omega), List.getElem?_take_of_lt c1]
  · rw [if_neg c1, List.getElem?_append_right (by omega), hl, List.getElem?_drop]
    congr 1; omega
def LLs (g : GH) (l : Nat) (ns : List Nat) (xs : List (Option Nat)) : Prop := GAt g l 18 ∧ gfi g 108 l = ns.length ∧ gfr g 109 l = ns[0]? ∧ gfr g 110 l = pv ns ns.length ∧ ns.length = xs.length ∧ ns.Nodup ∧ (∀ (i n : Nat), ns[i]? = some n → GAt g n 20 ∧ gfr g 116 n = xs.getD i none ∧ gfr g 117 n = ns[i + 1]? ∧ gfr g 118 n = pv ns i) ∧ ∀ i, gokO g (xs.getD i none) = true
def LlS (l : Nat) (ns : List Nat) : Nat → Prop := fun k => k = l ∨ k ∈ ns
theorem LLs.kp {g g' : GH} {S : Nat → Prop} {c l : Nat} {ns : List Nat} {xs : List (Option Nat)} (h : LLs g l ns xs) (hK : Kp g g' S c) (hW : GWf g) (k : SameC g g' l) (k2 : ∀ n ∈ ns, SameC g g' n) : LLs g' l ns xs := by
  obtain ⟨h1, h2, h3, h4, h5, h6, h7, h8⟩ := h
  refine ⟨⟨k.1.trans h1.1, h1.2⟩, (k.2.2.1 _).trans h2, (k.2.2.2.1 _).trans h3, (k.2.2.2.1 _).trans h4, h5, h6, fun i n hi => ?_, fun i => gokO.kp hK hW (h8 i)⟩
  obtain ⟨a1, a2, a3, a4⟩ := h7 i n hi
  have kn := k2 n (List.mem_of_getElem? hi)
  exact ⟨⟨kn.1.trans a1.1, a1.2⟩, (kn.2.2.2.1 _).trans a2, (kn.2.2.2.1 _).trans a3, (kn.2.2.2.1 _).trans a4⟩
theorem LLs.at {g : GH} {l : Nat} {ns : List Nat} {xs : List (Option Nat)} (h : LLs g l ns xs) : GAt g l 18 := h.1
theorem nodup_ix {ns : List Nat} (h : ns.Nodup) {i j n : Nat} (hi : ns[i]? = some n) (hj : ns[j]? = some n) : i = j := by
  obtain ⟨h1, e1⟩ := List.getElem?_eq_some_iff.mp hi
  exact (List.getElem?_inj h1 h).mp (hi.trans hj.symm)
theorem getD_q (xs : List (Option Nat)) (i : Nat) : xs.getD i none = (xs[i]?).getD none := List.getD_eq_getElem?_getD
section Ll
variable {d : Nat} {g : GH} {l : Nat} {ns : List Nat} {xs : List (Option Nat)}
theorem LLs.lt (h : LLs g l ns xs) (hW : GWf g) : l < gsz g ∧ (∀ n ∈ ns, n < gsz g) ∧ l ∉ ns := by
  obtain ⟨h1, h2, h3, h4, h5, h6, h7, h8⟩ := h
  refine ⟨hW.lt (by rw [h1.1]; decide), fun n hn => ?_, fun hn => ?_⟩
  · obtain ⟨i, hi⟩ := List.mem_iff_getElem?.mp hn
    exact hW.lt (by rw [(h7 i n hi).1.1]; decide)
  · obtain ⟨i, hi⟩ := List.mem_iff_getElem?.mp hn
    have := (h7 i l hi).1.1
    rw [h1.1] at this; cases this
/-- a node comes in at k -/
theorem LLs.ins {g' : GH} {k q : Nat} {v : Option Nat} (h : LLs g l ns xs) (hk : k ≤ ns.length) (hq : q ∉ ns) (a1 : GAt g' l 18) (a2 : gfi g' 108 l = ns.length + 1) (a3 : gfr g' 109 l = if k = 0 then some q else ns[0]?) (a4 : gfr g' 110 l = if k = ns.length then some q else pv ns ns.length)
    (a5 : GAt g' q 20 ∧ gfr g' 116 q = v ∧ gfr g' 117 q = ns[k]? ∧ gfr g' 118 q = pv ns k) (a6 : ∀ (i n : Nat), ns[i]? = some n → GAt g' n 20 ∧ gfr g' 116 n = xs.getD i none ∧ gfr g' 117 n = (if i + 1 = k then some q else ns[i + 1]?) ∧ gfr g' 118 n = (if i = k then some q else pv ns i)) (a7 : ∀ i, gokO g' (xs.getD i none) = true) (a8 : gokO g' v = true) : LLs g' l (insA ns k q) (insA xs k v) := by
  obtain ⟨h1, h2, h3, h4, h5, h6, h7, h8⟩ := h
  have hl := insA_len (q := q) hk
  have hlx := insA_len (q := v) (show k ≤ xs.length by omega)
  have gx : ∀ i, (insA xs k v).getD i none = if i < k then xs.getD i none else if i = k then v else xs.getD (i - 1) none := by
    intro i
    rw [getD_q, insA_get (by omega), getD_q, getD_q]
    split
    · rfl
    · split <;> rfl
  refine ⟨a1, by rw [hl, a2]; omega, ?_, ?_, by omega, ?_, fun i n hi => ?_, fun i => ?_⟩
  · rw [a3, insA_get hk]
    by_cases c : k = 0
    · rw [if_pos c, if_neg (by omega), if_pos c.symm]
    · rw [if_neg c, if_pos (by omega)]
  · rw [a4, hl]
    by_cases c : k = ns.length
    · rw [if_pos c]; unfold pv
      rw [if_neg (Nat.succ_ne_zero _), insA_get hk, if_neg (by omega), if_pos (by omega)]
    · rw [if_neg c]; unfold pv
      rw [if_neg (show ¬ ns.length = 0 by omega), if_neg (Nat.succ_ne_zero _), insA_get hk, if_neg (by omega), if_neg (by omega)]
      congr 1
  · unfold insA
    have hp : (ns.take k ++ q :: ns.drop k).Perm (q :: (ns.take k ++ ns.drop k)) := List.perm_middle
    rw [hp.nodup_iff, List.take_append_drop]
    exact List.nodup_cons.mpr ⟨hq, h6⟩
  · rw [insA_get hk] at hi
    rw [gx, insA_get hk]
    unfold pv
    by_cases c1 : i < k
    · rw [if_pos c1] at hi
      obtain ⟨b1, b2, b3, b4⟩ := a6 i n hi
      refine ⟨b1, by rw [if_pos c1]; exact b2, ?_, ?_⟩
      · rw [b3]
        by_cases c2 : i + 1 = k
        · rw [if_pos c2, if_neg (by omega), if_pos c2]
        · rw [if_neg c2, if_pos (by omega)]
      · rw [b4, if_neg (by omega)]
        unfold pv
        by_cases c2 : i = 0
        · rw [if_pos c2, if_pos c2]
        · rw [if_neg c2, if_neg c2, insA_get hk, if_pos (by omega)]
    · rw [if_neg c1] at hi
      by_cases c2 : i = k
      · rw [if_pos c2] at hi
        cases hi
        obtain ⟨b1, b2, b3, b4⟩ := a5
        refine ⟨b1, by rw [if_neg c1, if_pos c2]; exact b2, ?_, ?_⟩
        · rw [b3, if_neg (by omega), if_neg (by omega), c2]; rfl
        · rw [b4]; unfold pv
          by_cases c3 : k = 0
          · rw [if_pos c3, if_pos (by omega)]
          · rw [if_neg c3, if_neg (by omega), insA_get hk, if_pos (by omega), c2]
      · rw [if_neg c2] at hi
        obtain ⟨b1, b2, b3, b4⟩ := a6 (i - 1) n hi
        refine ⟨b1, by rw [if_neg c1, if_neg c2]; exact b2, ?_, ?_⟩
        · rw [b3, if_neg (by omega), if_neg (by omega), if_neg (by omega)]
          congr 1; omega
        · rw [b4]
          rw [if_neg (show ¬ i = 0 by omega), insA_get hk]
          by_cases c3 : i - 1 = k
          · rw [if_pos c3, if_neg (by omega), if_pos c3]
          · rw [if_neg c3, if_neg (by omega), if_neg c3]
            unfold pv
            rw [if_neg (by omega)]
  · rw [gx]
    split
    · exact a7 i
    · split
      · exact a8
      · exact a7 _
/-- the node at k goes -/
theorem LLs.del {g' : GH} {k q : Nat} (h : LLs g l ns xs) (hq : ns[k]? = some q) (a1 : GAt g' l 18) (a2 : gfi g' 108 l = (ns.length : Int) - 1) (a3 : gfr g' 109 l = if k = 0 then ns[1]? else ns[0]?) (a4 : gfr g' 110 l = if k + 1 = ns.length then pv ns k else pv ns ns.length)
    (a6 : ∀ (i n : Nat), i ≠ k → ns[i]? = some n → GAt g' n 20 ∧ gfr g' 116 n = xs.getD i none ∧ gfr g' 117 n = (if i + 1 = k then ns[k + 1]? else ns[i + 1]?) ∧ gfr g' 118 n = (if i = k + 1 then pv ns k else pv ns i)) (a7 : ∀ i, gokO g' (xs.getD i none) = true) : LLs g' l (delA ns k) (delA xs k) := by
  obtain ⟨h1, h2, h3, h4, h5, h6, h7, h8⟩ := h
  have hk : k < ns.length := (List.getElem?_eq_some_iff.mp hq).1
  have hl := delA_len hk
  have hlx := delA_len (show k < xs.length by omega)
  have gx : ∀ i, (delA xs k).getD i none = if i < k then xs.getD i none else xs.getD (i + 1) none := by
    intro i
    rw [getD_q, delA_get (by omega), getD_q, getD_q]
    split <;> rfl
  refine ⟨a1, by rw [hl, a2]; omega, ?_, ?_, by omega, ?_, fun i n hi => ?_, fun i => ?_⟩
  · rw [a3, delA_get hk]
    by_cases c : k = 0
    · rw [if_pos c, if_neg (by omega)]
    · rw [if_neg c, if_pos (by omega)]
  · rw [a4, hl]
    by_cases c : k + 1 = ns.length
    · rw [if_pos c]; unfold pv
      by_cases c0 : k = 0
      · rw [if_pos c0, if_pos (by omega)]
      · rw [if_neg c0, if_neg (by omega), delA_get hk, if_pos (by omega)]
        congr 1; omega
    · rw [if_neg c]; unfold pv
      rw [if_neg (show ¬ ns.length = 0 by omega), if_neg (by omega), delA_get hk, if_neg (by omega)]
      congr 1; omega
  · unfold delA
    have hp : (ns.take k ++ ns.drop (k + 1)).Sublist ns := by
      have := List.Sublist.append (List.Sublist.refl (ns.take k)) (List.drop_sublist 1 (ns.drop k))
      rw [List.drop_drop, List.take_append_drop] at this
      exact this
    exact h6.sublist hp
  · rw [delA_get hk] at hi
    rw [gx, delA_get hk]
    unfold pv
    by_cases c1 : i < k
    · rw [if_pos c1] at hi
      obtain ⟨b1, b2, b3, b4⟩ := a6 i n (by omega) hi
      refine ⟨b1, by rw [if_pos c1]; exact b2, ?_, ?_⟩
      · rw [b3]
        by_cases c2 : i + 1 = k
        · rw [if_pos c2, if_neg (by omega), c2]
        · rw [if_neg c2, if_pos (by omega)]
      · rw [b4, if_neg (by omega)]
        unfold pv
        by_cases c2 : i = 0
        · rw [if_pos c2, if_pos c2]
        · rw [if_neg c2, if_neg c2, delA_get hk, if_pos (by omega)]
    · rw [if_neg c1] at hi
      obtain ⟨b1, b2, b3, b4⟩ := a6 (i + 1) n (by omega) hi
      refine ⟨b1, by rw [if_neg c1]; exact b2, ?_, ?_⟩
      · rw [b3, if_neg (by omega), if_neg (by omega)]
      · rw [b4]
        unfold pv
        by_cases c2 : i + 1 = k + 1
        · rw [if_pos c2]
          by_cases c3 : k = 0
          · rw [if_pos c3, if_pos (by omega)]
          · rw [if_neg c3, if_neg (by omega), delA_get hk, if_pos (by omega)]
            congr 1; omega
        · rw [if_neg c2, if_neg (by omega), if_neg (by omega), delA_get hk, if_neg (by omega)]
          congr 1; omega
  · rw [gx]
    split
    · exact a7 i
    · exact a7 _
end Ll
