/-! SPECS 11: how a pad is read -/
set_option maxRecDepth 100000
def see (X : List Nat) (pl lo hi : Nat) : Bool := match X[pl]? with
  | some c => decide (lo ≤ c ∧ c ≤ hi)
  | none => false
def letA (X : List Nat) (pl : Nat) : Option Nat := match X[pl]? with
  | some c => if 65 ≤ c ∧ c ≤ 90 then some (c - 65) else none
  | none => none
def pName (X : List Nat) (pl : Nat) : Option Nat × Nat := match letA X pl with
  | none => (none, pl)
  | some a => match letA X (pl + 1) with
    | none => (none, pl + 1)
    | some b => (some (26 * a + b), pl + 2)
def nlp (X : List Nat) (most : Nat) : Nat → Nat → Nat → Nat × Nat
  | 0, pl, v => (v, pl)
  | f + 1, pl, v => match X[pl]? with
    | some c => if 0 < v ∧ (48 ≤ c ∧ c ≤ 57) ∧ 10 * v + c - 48 ≤ most then nlp X most f (pl + 1) (10 * v + c - 48) else (v, pl)
    | none => (v, pl)
def pNum (X : List Nat) (least most pl : Nat) : Option Nat × Nat := match X[pl]? with
  | some c => if least ≤ c ∧ c ≤ 57 then (some (nlp X most (X.length - (pl + 1)) (pl + 1) (c - 48)).1, (nlp X most (X.length - (pl + 1)) (pl + 1) (c - 48)).2) else (none, pl)
  | none => (none, pl)
def pAdd (X : List Nat) (pl : Nat) : Option (Nat × Nat × Nat) × Nat := match pName X pl with
  | (none, q) => (none, q)
  | (some nm, q) =>
    if see X q 62 62 then (match pName X (q + 1) with
      | (none, q2) => (none, q2)
      | (some x, q2) => (some (nm, 0, x), q2))
    else if see X q 61 61 then (match pNum X 49 40 (q + 1) with
      | (none, q2) => (none, q2)
      | (some ln, q2) => if see X q2 44 44 then (match pNum X 48 9999 (q2 + 1) with
          | (none, q3) => (none, q3)
          | (some mq, q3) => (some (nm, ln, mq), q3))
        else (some (nm, ln, 0), q2))
    else (none, q)
def pTail (X : List Nat) : Nat → Nat → Option (List (Nat × Nat × Nat)) × Nat
  | 0, pl => (some [], pl)
  | f + 1, pl => if see X pl 59 59 then (match pAdd X (pl + 1) with
      | (none, q) => (none, q)
      | (some t, q) => match pTail X f q with
        | (none, q2) => (none, q2)
        | (some ts, q2) => (some (t :: ts), q2))
    else (some [], pl)
def pAll (X : List Nat) : Option (List (Nat × Nat × Nat)) × Nat := match pAdd X 0 with
  | (none, q) => (none, q)
  | (some t, q) => match pTail X X.length q with
    | (none, q2) => (none, q2)
    | (some ts, q2) => if q2 < X.length then (none, q2) else (some (t :: ts), q2)
/-! where the reading goes on -/
theorem letA_lt {X : List Nat} {pl a : Nat} (h : letA X pl = some a) : a < 26 ∧ pl < X.length := by
  unfold letA at h
  cases hx : X[pl]? with
  | none => rw [hx] at h; cases h
  | some c =>
    rw [hx] at h
    have hl := (List.getElem?_eq_some_iff.mp hx).1
    by_cases hc : 65 ≤ c ∧ c ≤ 90
    · have h : (if 65 ≤ c ∧ c ≤ 90 then some (c - 65) else none) = some a := h
      rw [if_pos hc] at h
      have := Option.some.inj h
      omega
    · have h : (if 65 ≤ c ∧ c ≤ 90 then some (c - 65) else none) = some a := h
      rw [if_neg hc] at h; cases h
theorem see_lt {X : List Nat} {pl lo hi : Nat} (h : see X pl lo hi = true) : pl < X.length := by
  unfold see at h
  cases hx : X[pl]? with
  | none => rw [hx] at h; cases h
  | some c => exact (List.getElem?_eq_some_iff.mp hx).1
theorem pName_ok {X : List Nat} {pl : Nat} (hl : pl ≤ X.length) : pl ≤ (pName X pl).2 ∧ (pName X pl).2 ≤ X.length ∧ ∀ a, (pName X pl).1 = some a → a < 676 := by
  unfold pName
  cases h1 : letA X pl with
  | none => exact ⟨Nat.le_refl _, hl, fun a h => by cases h⟩
  | some a =>
    have := letA_lt h1
    show pl ≤ (match letA X (pl + 1) with | none => (none, pl + 1) | some b => (some (26 * a + b), pl + 2) : Option Nat × Nat).2 ∧ (match letA X (pl + 1) with | none => (none, pl + 1) | some b => (some (26 * a + b), pl + 2) : Option Nat × Nat).2 ≤ X.length ∧ ∀ x, (match letA X (pl + 1) with | none => (none, pl + 1) | some b => (some (26 * a + b), pl + 2) : Option Nat × Nat).1 = some x → x < 676
    cases h2 : letA X (pl + 1) with
    | none => exact ⟨by show pl ≤ pl + 1; omega, by show pl + 1 ≤ X.length; omega, fun a h => by cases h⟩
    | some b =>
      have := letA_lt h2
      exact ⟨by show pl ≤ pl + 2; omega, by show pl + 2 ≤ X.length; omega, fun x h => by have : 26 * a + b = x := Option.some.inj h; omega⟩
theorem nlp_ok {X : List Nat} {most : Nat} : ∀ (f pl v : Nat), pl ≤ X.length → pl ≤ (nlp X most f pl v).2 ∧ (nlp X most f pl v).2 ≤ X.length ∧ ((nlp X most f pl v).1 = v ∨ (nlp X most f pl v).1 ≤ most) ∧ (0 < v → 0 < (nlp X most f pl v).1)
  | 0, pl, v, hl => ⟨Nat.le_refl _, hl, Or.inl rfl, fun h => h⟩
  | f + 1, pl, v, hl => by
    unfold nlp
    cases hx : X[pl]? with
    | none => exact ⟨Nat.le_refl _, hl, Or.inl rfl, fun h => h⟩
    | some c =>
      have hlt := (List.getElem?_eq_some_iff.mp hx).1
      by_cases hc : 0 < v ∧ (48 ≤ c ∧ c ≤ 57) ∧ 10 * v + c - 48 ≤ most
      · simp only [if_pos hc]
        have ih := nlp_ok f (pl + 1) (10 * v + c - 48) (most := most) (X := X) (by omega)
        refine ⟨by omega, ih.2.1, Or.inr ?_, fun _ => ih.2.2.2 (by omega)⟩
        rcases ih.2.2.1 with e | e
        · rw [e]; exact hc.2.2
        · exact e
      · simp only [if_neg hc]
        exact ⟨Nat.le_refl _, hl, Or.inl trivial, fun h => h⟩
theorem pNum_ok {X : List Nat} {least most pl : Nat} (hl : pl ≤ X.length) (h0 : 48 ≤ least) (h9 : 9 ≤ most) : pl ≤ (pNum X least most pl).2 ∧ (pNum X least most pl).2 ≤ X.length ∧ ∀ a, (pNum X least most pl).1 = some a → a ≤ most ∧ (48 < least → 0 < a) := by
  unfold pNum
  cases hx : X[pl]? with
  | none => exact ⟨Nat.le_refl _, hl, fun a h => by cases h⟩
  | some c =>
    have hlt := (List.getElem?_eq_some_iff.mp hx).1
    by_cases hc : least ≤ c ∧ c ≤ 57
    · simp only [if_pos hc]
      have ih := nlp_ok (X.length - (pl + 1)) (pl + 1) (c - 48) (most := most) (X := X) (by omega)
      refine ⟨by omega, ih.2.1, fun a h => ?_⟩
      have h := Option.some.inj h
      refine ⟨?_, fun hl => ?_⟩
      · rcases ih.2.2.1 with e | e <;> omega
      · have := ih.2.2.2 (by omega)
        omega
    · simp only [if_neg hc]
      exact ⟨Nat.le_refl _, hl, fun a h => by cases h⟩
def okA (t : Nat × Nat × Nat) : Prop := t.1 < 676 ∧ ((t.2.1 = 0 ∧ t.2.2 < 676) ∨ (1 ≤ t.2.1 ∧ t.2.1 ≤ 40 ∧ t.2.2 ≤ 9999))
theorem pAdd_ok {X : List Nat} {pl : Nat} (hl : pl ≤ X.length) : pl ≤ (pAdd X pl).2 ∧ (pAdd X pl).2 ≤ X.length ∧ ∀ t, (pAdd X pl).1 = some t → okA t := by
  have h1 := pName_ok hl
  unfold pAdd
  generalize pName X pl = r at h1
  obtain ⟨o, q⟩ := r
  obtain ⟨a1, a2, a3⟩ := h1
  have a1 : pl ≤ q := a1
  have a2 : q ≤ X.length := a2
  cases o with
  | none => exact ⟨a1, a2, fun t h => by cases h⟩
  | some nm =>
    have a3 := a3 nm rfl
    dsimp only
    by_cases s1 : see X q 62 62 = true
    · rw [if_pos s1]
      have h2 := pName_ok (X := X) (pl := q + 1) (see_lt s1)
      generalize pName X (q + 1) = r at h2
      obtain ⟨o2, q2⟩ := r
      obtain ⟨b1, b2, b3⟩ := h2
      have b1 : q + 1 ≤ q2 := b1
      have b2 : q2 ≤ X.length := b2
      cases o2 with
      | none => exact ⟨by show pl ≤ q2; omega, b2, fun t h => by cases h⟩
      | some x => exact ⟨by show pl ≤ q2; omega, b2, fun t h => by have h := Option.some.inj h; subst h; exact ⟨a3, Or.inl ⟨rfl, b3 x rfl⟩⟩⟩
    · rw [if_neg s1]
      by_cases s2 : see X q 61 61 = true
      · rw [if_pos s2]
        have h2 := pNum_ok (X := X) (pl := q + 1) (least := 49) (most := 40) (see_lt s2) (by omega) (by omega)
        generalize pNum X 49 40 (q + 1) = r at h2
        obtain ⟨o2, q2⟩ := r
        obtain ⟨b1, b2, b3⟩ := h2
        have b1 : q + 1 ≤ q2 := b1
        have b2 : q2 ≤ X.length := b2
        cases o2 with
        | none => exact ⟨by show pl ≤ q2; omega, b2, fun t h => by cases h⟩
        | some ln =>
          have b3 := b3 ln rfl
          dsimp only
          by_cases s3 : see X q2 44 44 = true
          · rw [if_pos s3]
            have h4 := pNum_ok (X := X) (pl := q2 + 1) (least := 48) (most := 9999) (see_lt s3) (by omega) (by omega)
            generalize pNum X 48 9999 (q2 + 1) = r at h4
            obtain ⟨o3, q3⟩ := r
            obtain ⟨c1, c2, c3⟩ := h4
            have c1 : q2 + 1 ≤ q3 := c1
            have c2 : q3 ≤ X.length := c2
            cases o3 with
            | none => exact ⟨by show pl ≤ q3; omega, c2, fun t h => by cases h⟩
            | some mq => exact ⟨by show pl ≤ q3; omega, c2, fun t h => by have h := Option.some.inj h; subst h; exact ⟨a3, Or.inr ⟨b3.2 (by omega), b3.1, (c3 mq rfl).1⟩⟩⟩
          · rw [if_neg s3]
            exact ⟨by show pl ≤ q2; omega, b2, fun t h => by have h := Option.some.inj h; subst h; exact ⟨a3, Or.inr ⟨b3.2 (by omega), b3.1, by show 0 ≤ 9999; omega⟩⟩⟩
      · rw [if_neg s2]
        exact ⟨a1, a2, fun t h => by cases h⟩
theorem pTail_ok {X : List Nat} : ∀ (f pl : Nat), pl ≤ X.length → pl ≤ (pTail X f pl).2 ∧ (pTail X f pl).2 ≤ X.length ∧ ∀ ts, (pTail X f pl).1 = some ts → (∀ t ∈ ts, okA t) ∧ ts.length ≤ f
  | 0, pl, hl => ⟨Nat.le_refl _, hl, fun ts h => by have h := Option.some.inj h; subst h; exact ⟨fun t ht => by simp at ht, Nat.le_refl _⟩⟩
  | f + 1, pl, hl => by
    unfold pTail
    by_cases s1 : see X pl 59 59 = true
    · rw [if_pos s1]
      have h1 := pAdd_ok (X := X) (pl := pl + 1) (see_lt s1)
      generalize pAdd X (pl + 1) = r at h1
      obtain ⟨o, q⟩ := r
      obtain ⟨a1, a2, a3⟩ := h1
      have a1 : pl + 1 ≤ q := a1
      have a2 : q ≤ X.length := a2
      cases o with
      | none => exact ⟨by show pl ≤ q; omega, a2, fun ts h => by cases h⟩
      | some t =>
        have ih := pTail_ok (X := X) f q a2
        dsimp only
        generalize pTail X f q = r at ih
        obtain ⟨o2, q2⟩ := r
        obtain ⟨b1, b2, b3⟩ := ih
        have b1 : q ≤ q2 := b1
        cases o2 with
        | none => exact ⟨by show pl ≤ q2; omega, b2, fun ts h => by cases h⟩
        | some ts =>
          refine ⟨by show pl ≤ q2; omega, b2, fun us h => ?_⟩
          have h := Option.some.inj h
          subst h
          obtain ⟨b4, b5⟩ := b3 ts rfl
          refine ⟨fun x hx => ?_, by rw [List.length_cons]; omega⟩
          rcases List.mem_cons.mp hx with rfl | hx
          · exact a3 _ rfl
          · exact b4 x hx
    · rw [if_neg s1]
      exact ⟨Nat.le_refl _, hl, fun ts h => by have h := Option.some.inj h; subst h; exact ⟨fun t ht => by simp at ht, Nat.zero_le _⟩⟩
theorem pAll_ok {X : List Nat} : (pAll X).2 ≤ X.length ∧ ∀ ts, (pAll X).1 = some ts → (∀ t ∈ ts, okA t) ∧ ts.length ≤ X.length + 1 := by
  unfold pAll
  have h1 := pAdd_ok (X := X) (pl := 0) (Nat.zero_le _)
  generalize pAdd X 0 = r at h1
  obtain ⟨o, q⟩ := r
  obtain ⟨a1, a2, a3⟩ := h1
  have a2 : q ≤ X.length := a2
  cases o with
  | none => exact ⟨a2, fun ts h => by cases h⟩
  | some t =>
    have ih := pTail_ok (X := X) X.length q a2
    dsimp only
    generalize pTail X X.length q = r at ih
    obtain ⟨o2, q2⟩ := r
    obtain ⟨b1, b2, b3⟩ := ih
    cases o2 with
    | none => exact ⟨b2, fun ts h => by cases h⟩
    | some ts =>
      dsimp only
      by_cases hq : q2 < X.length
      · rw [if_pos hq]; exact ⟨b2, fun ts h => by cases h⟩
      · rw [if_neg hq]
        refine ⟨b2, fun us h => ?_⟩
        have h := Option.some.inj h
        subst h
        obtain ⟨b4, b5⟩ := b3 ts rfl
        refine ⟨fun x hx => ?_, by rw [List.length_cons]; omega⟩
        rcases List.mem_cons.mp hx with rfl | hx
        · exact a3 _ rfl
        · exact b4 x hx
