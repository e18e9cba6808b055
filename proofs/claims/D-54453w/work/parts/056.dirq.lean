/-! SPECS 6: what the directory is asked -/
set_option maxRecDepth 100000
theorem find_at {α : Type} {p : α → Bool} : ∀ {E : List α} {i : Nat} {e : α}, E[i]? = some e → p e = true → (∀ j y, j < i → E[j]? = some y → p y = false) → E.find? p = some e
  | [], i, e, h, hp, hq => by simp at h
  | a :: t, 0, e, h, hp, hq => by
    have h : a = e := by simpa using h
    subst h
    simp [hp]
  | a :: t, i + 1, e, h, hp, hq => by
    have h0 := hq 0 a (by omega) rfl
    rw [List.find?_cons, h0]
    exact find_at (by simpa using h) hp (fun j y hj hy => hq (j + 1) y (by omega) (by simpa using hy))
theorem find_none {α : Type} {p : α → Bool} {E : List α} (h : ∀ (j : Nat) (y : α), E[j]? = some y → p y = false) : E.find? p = none := by
  rw [List.find?_eq_none]
  intro x hx
  obtain ⟨j, hj⟩ := List.getElem?_of_mem hx
  rw [h j x hj]
  decide
/-- the entry of a name -/
def fnd (E : List EN) (x : Int32) : Option EN := E.find? (fun e => decide (nI (en e) = x))
section D6
variable {G : g_} {h : hp_} {d el ar n bl : Nat} {E : List EN}
theorem DR.at (D : DR G h d el ar n E bl) {i : Nat} {e : EN} (hx : E[i]? = some e) : ent h e := D.2.2.1 e (List.mem_of_getElem? hx)
theorem DR.len (D : DR G h d el ar n E bl) : E.length ≤ 24 := D.2.2.2.1
theorem X2_find_ {x : Int32} (hw : hwf h) (D : DR G h d el ar n E bl) :
    Do_ G M_X2_find [.ref d, .int x] h (RO (fun h' => fnd E x = none ∧ Le h h' ∧ hm h' ≤ hm h + 5) (fun a h' => ∃ e, fnd E x = some e ∧ a = ea e ∧ Le h h' ∧ hm h' ≤ hm h + 5)) := by
  have hl := D.len
  have key : ∀ (k i : Nat) (h1 : hp_), E.length - i = k → i ≤ E.length → Le h h1 → IW h1 (hsz h) d i E.length → hm h1 ≤ hm h + 5 → (∀ j y, j < i → E[j]? = some y → decide (nI (en y) = x) = false) →
      Go_ G M_X2_find 5 [none, some (.int x), some (.ref (hsz h)), none] [] h1 (RO (fun h' => fnd E x = none ∧ Le h h' ∧ hm h' ≤ hm h + 5) (fun a h' => ∃ e, fnd E x = some e ∧ a = ea e ∧ Le h h' ∧ hm h' ≤ hm h + 5)) := by
    intro k
    induction k with
    | zero =>
      intro i h1 hk hi b1 b2 b3 b4
      obtain ⟨fr, I⟩ := b2
      refine w_X2_find_5 ⟨cax I, (X4_hasNext_ ⟨fr, I⟩ (by omega) (by omega)).use ⟨fun _ => Or.inl ⟨rfl, find_none (fun j y hy => b4 j y ?_ hy), b1, b3⟩, fun c => ?_⟩⟩
      · have := (List.getElem?_eq_some_iff.mp hy).1; omega
      · rw [decide_eq_false (by omega)] at c
        exact absurd rfl c
    | succ k ih =>
      intro i h1 hk hi b1 b2 b3 b4
      have hx : E[i]? = some E[i] := List.getElem?_eq_getElem (by omega)
      have I0 := b2
      obtain ⟨fr, I⟩ := b2
      refine w_X2_find_5 ⟨cax I, (X4_hasNext_ I0 (by omega) (by omega)).use ⟨fun c => ?_, fun _ => ⟨cax I, (X4_next_ (D.le b1) I0 hx).rn ?_⟩⟩⟩
      · rw [decide_eq_true (by omega)] at c
        exact absurd c (by decide)
      · rintro _ h2 hw2 - ⟨rfl, J, m⟩
        have l2 := m.le hw b1 (Nat.le_refl _)
        have k2 : ent h2 E[i] := (D.at hx).le l2
        obtain ⟨c, hc1, hc2⟩ := k2.cls
        refine ⟨c, hc1, hc2, _, k2.name, fun c => ?_, fun c => ?_⟩
        · refine ih (i + 1) h2 (by omega) (by omega) l2 J (by rw [m.2]; exact b3) (fun j y hj hy => ?_)
          by_cases hji : j < i
          · exact b4 j y hji hy
          · obtain rfl : j = i := by omega
            rw [hx] at hy
            cases hy
            exact decide_eq_false c
        · exact Or.inr ⟨_, rfl, E[i], find_at hx (decide_eq_true (Classical.not_not.mp c)) b4, rfl, l2, by rw [m.2]; exact b3⟩
  refine e_X2_find ⟨cax D.1, (X2_iterator_ hw D).rn ?_⟩
  rintro _ h1 - - ⟨rfl, I, b1, b2⟩
  exact key E.length 0 h1 rfl (Nat.zero_le _) b1 I b2 (fun j y hj => absurd hj (by omega))
theorem X2_member_ {x : Int32} (hw : hwf h) (D : DR G h d el ar n E bl) :
    Do_ G M_X2_member [.ref d, .int x] h (RO (fun h' => (∀ e, fnd E x = some e → (eg e).isSome = true) ∧ Le h h' ∧ hm h' ≤ hm h + 5) (fun a h' => ∃ e, fnd E x = some e ∧ eg e = none ∧ a = ea e ∧ Le h h' ∧ hm h' ≤ hm h + 5)) := by
  refine e_X2_member ⟨cax D.1, (X2_find_ hw D).ro ?_ ?_⟩
  · rintro h1 - - ⟨b1, b2⟩
    refine Or.inl ⟨rfl, fun e he => ?_, b2⟩
    rw [b1] at he; cases he
  · rintro _ h1 - - ⟨e, b1, rfl, b2, b3⟩
    have k : ent h1 e := (D.2.2.1 e (List.mem_of_find?_eq_some b1)).le b2
    refine k.isA ⟨fun c => Or.inr ⟨_, rfl, e, b1, ?_, rfl, b2, b3⟩, fun c => Or.inl ⟨rfl, fun e2 he => ?_, b2, b3⟩⟩
    · have := (bI_0 _).mp c
      cases hg : eg e with
      | none => rfl
      | some z => rw [hg] at this; cases this
    · rw [b1] at he
      cases he
      exact (bI_ne0 _).mp c
/-- the first of a name stands at its place in the list of addresses -/
theorem fst_addr (D : DR G h d el ar n E bl) {x : Int32} {i : Nat} {e : EN} (hi : E[i]? = some e) (he : nI (en e) = x) (hf : ∀ j y, j < i → E[j]? = some y → nI (en y) ≠ x) : ∀ j, j < i → (E.map ea)[j]? ≠ some (ea e) := by
  intro j hj c
  rw [List.getElem?_map] at c
  cases hy : E[j]? with
  | none => rw [hy] at c; cases c
  | some y =>
    rw [hy] at c
    have hc : ea y = ea e := by simpa using c
    have n1 := (D.at hy).name
    rw [hc, (D.at hi).name] at n1
    have : nI (en e) = nI (en y) := by simpa using n1
    exact hf j y hj hy (this.symm.trans he)
theorem fnd_at {x : Int32} {i : Nat} {e : EN} (hi : E[i]? = some e) (he : nI (en e) = x) (hf : ∀ j y, j < i → E[j]? = some y → nI (en y) ≠ x) : fnd E x = some e :=
  find_at hi (decide_eq_true he) (fun j y hj hy => decide_eq_false (hf j y hj hy))
theorem X2_rankOf_ {x : Int32} (hw : hwf h) (D : DR G h d el ar n E bl) {i : Nat} {e : EN} (hi : E[i]? = some e) (he : nI (en e) = x) (hf : ∀ j y, j < i → E[j]? = some y → nI (en y) ≠ x) : QI G M_X2_rankOf [.ref d, .int x] h (nI i) 5 := by
  have D0 := D
  obtain ⟨d1, ⟨mc, f, d2⟩, d3, d4⟩ := D
  have hfn := fnd_at hi he hf
  refine e_X2_rankOf ⟨_, gfx d1 rfl rfl, cax d1, (X2_find_ hw D0).ro ?_ ?_⟩
  · rintro h1 - - ⟨b1, -⟩
    rw [hfn] at b1; cases b1
  · rintro _ h1 - - ⟨e', b1, rfl, b2, b3⟩
    rw [hfn] at b1
    cases b1
    refine ⟨cax (d2.le b2).1, (J2_indexOf_ (d2.le b2) ((d3 e (List.mem_of_getElem? hi)).le b2).eqk (by rw [List.getElem?_map, hi]; rfl) (fst_addr D0 hi he hf)).use ⟨_, rfl, rfl, b2, b3⟩⟩
theorem X2_free_ (D : DR G h d el ar n E bl) (hE : E.length ≤ 4 * bl) : QE G M_X2_free [.ref d] h (nI (4 * bl - E.length)) := by
  obtain ⟨d1, ⟨mc, f, d2⟩, d3, d4, d5⟩ := D
  refine e_X2_free ⟨_, gfx d1 rfl rfl, _, gfx d1 rfl rfl, cax d2.1, (J2_size_ d2).use ⟨_, rfl, ?_, rfl⟩⟩
  rw [List.length_map, show (4 : Int32) = nI 4 from rfl, nI_mul', nI_sub' hE]
theorem X2_pointsTo_ {t : Nat} (hw : hwf h) (D : DR G h d el ar n E bl) : QI G M_X2_pointsTo [.ref d, .ref t] h (bI (E.any (fun e => et e == t))) 5 := by
  have hl := D.len
  have key : ∀ (k i : Nat) (h1 : hp_), E.length - i = k → i ≤ E.length → Le h h1 → IW h1 (hsz h) d i E.length → hm h1 ≤ hm h + 5 →
      Go_ G M_X2_pointsTo 7 [none, some (.ref t), some (.int (bI ((E.take i).any (fun e => et e == t)))), some (.ref (hsz h)), none] [] h1 (RI fun y h' => y = bI (E.any (fun e => et e == t)) ∧ Le h h' ∧ hm h' ≤ hm h + 5) := by
    intro k
    induction k with
    | zero =>
      intro i h1 hk hi b1 b2 b3
      have I0 := b2
      obtain ⟨fr, I⟩ := b2
      refine w_X2_pointsTo_7 ⟨cax I, (X4_hasNext_ I0 (by omega) (by omega)).use ⟨fun _ => ⟨?_, _, rfl, ?_, b1, b3⟩, fun c => ?_⟩⟩
      · cases (E.take i).any (fun e => et e == t) <;> decide +kernel
      · rw [List.take_of_length_le (by omega)]
      · rw [decide_eq_false (by omega)] at c
        exact absurd rfl c
    | succ k ih =>
      intro i h1 hk hi b1 b2 b3
      have hx : E[i]? = some E[i] := List.getElem?_eq_getElem (by omega)
      have htk : (E.take (i + 1)).any (fun e => et e == t) = ((E.take i).any (fun e => et e == t) || (et E[i] == t)) := by
        rw [List.take_add_one, hx, List.any_append]
        simp
      have I0 := b2
      obtain ⟨fr, I⟩ := b2
      refine w_X2_pointsTo_7 ⟨cax I, (X4_hasNext_ I0 (by omega) (by omega)).use ⟨fun c => ?_, fun _ => ⟨cax I, (X4_next_ (D.le b1) I0 hx).rn ?_⟩⟩⟩
      · rw [decide_eq_true (by omega)] at c
        exact absurd c (by decide)
      · rintro _ h2 hw2 - ⟨rfl, J, m⟩
        have l2 := m.le hw b1 (Nat.le_refl _)
        have k2 : ent h2 E[i] := (D.at hx).le l2
        obtain ⟨c, hc1, hc2⟩ := k2.cls
        have nx := ih (i + 1) h2 (by omega) (by omega) l2 J (by rw [m.2]; exact b3)
        rw [htk] at nx
        refine ⟨c, hc1, hc2, fun c => ?_, fun c => ⟨_, k2.text, fun c2 => ?_, fun c2 => ?_⟩⟩
        · rw [(bI_ne0 _).mp c] at nx
          exact nx
        · have : et E[i] = t := by simpa using c2
          rw [this, beq_self_eq_true, Bool.or_true] at nx
          exact nx
        · have h3 : (et E[i] == t) = false := by
            rw [beq_eq_false_iff_ne]
            intro e9; exact c2 (by rw [e9])
          have h4 : (E.take i).any (fun e => et e == t) = false := (bI_0 _).mp (Classical.not_not.mp c)
          rw [h3, h4] at nx
          exact nx
  refine e_X2_pointsTo ⟨cax D.1, (X2_iterator_ hw D).rn ?_⟩
  rintro _ h1 - - ⟨rfl, I, b1, b2⟩
  exact key E.length 0 h1 rfl (Nat.zero_le _) b1 I b2
theorem X2_aliasesOf_ {t : Nat} (hw : hwf h) (D : DR G h d el ar n E bl) : QI G M_X2_aliasesOf [.ref d, .ref t] h (nI (E.countP (fun e => (eg e).isSome && (et e == t)))) 5 := by
  have hl := D.len
  have key : ∀ (k i : Nat) (h1 : hp_), E.length - i = k → i ≤ E.length → Le h h1 → IW h1 (hsz h) d i E.length → hm h1 ≤ hm h + 5 →
      Go_ G M_X2_aliasesOf 7 [none, some (.ref t), some (.int (nI ((E.take i).countP (fun e => (eg e).isSome && (et e == t))))), some (.ref (hsz h)), none] [] h1 (RI fun y h' => y = nI (E.countP (fun e => (eg e).isSome && (et e == t))) ∧ Le h h' ∧ hm h' ≤ hm h + 5) := by
    intro k
    induction k with
    | zero =>
      intro i h1 hk hi b1 b2 b3
      have I0 := b2
      obtain ⟨fr, I⟩ := b2
      refine w_X2_aliasesOf_7 ⟨cax I, (X4_hasNext_ I0 (by omega) (by omega)).use ⟨fun _ => ⟨_, rfl, ?_, b1, b3⟩, fun c => ?_⟩⟩
      · rw [List.take_of_length_le (by omega)]
      · rw [decide_eq_false (by omega)] at c
        exact absurd rfl c
    | succ k ih =>
      intro i h1 hk hi b1 b2 b3
      have hx : E[i]? = some E[i] := List.getElem?_eq_getElem (by omega)
      have htk : (E.take (i + 1)).countP (fun e => (eg e).isSome && (et e == t)) = (E.take i).countP (fun e => (eg e).isSome && (et e == t)) + (if ((eg E[i]).isSome && (et E[i] == t)) = true then 1 else 0) := by
        rw [List.take_add_one, hx, List.countP_append]
        simp [List.countP_cons]
      have I0 := b2
      obtain ⟨fr, I⟩ := b2
      refine w_X2_aliasesOf_7 ⟨cax I, (X4_hasNext_ I0 (by omega) (by omega)).use ⟨fun c => ?_, fun _ => ⟨cax I, (X4_next_ (D.le b1) I0 hx).rn ?_⟩⟩⟩
      · rw [decide_eq_true (by omega)] at c
        exact absurd c (by decide)
      · rintro _ h2 hw2 - ⟨rfl, J, m⟩
        have l2 := m.le hw b1 (Nat.le_refl _)
        have k2 : ent h2 E[i] := (D.at hx).le l2
        obtain ⟨c, hc1, hc2⟩ := k2.cls
        have nx := ih (i + 1) h2 (by omega) (by omega) l2 J (by rw [m.2]; exact b3)
        rw [htk] at nx
        refine ⟨c, hc1, hc2, k2.isA ⟨fun c => ?_, fun c => ⟨_, k2.text, fun c2 => ?_, fun c2 => ?_⟩⟩⟩
        · rw [(bI_0 _).mp c] at nx
          rw [show ∀ z : Int32, z + 0 = z from Int32.add_zero]
          simpa using nx
        · have h3 : et E[i] = t := by simpa using c2
          rw [(bI_ne0 _).mp c, h3, beq_self_eq_true] at nx
          rw [show ∀ a : Nat, nI a + 1 = nI (a + 1) from fun a => nI_add' a 1]
          exact nx
        · have h3 : (et E[i] == t) = false := by
            rw [beq_eq_false_iff_ne]
            intro e9; exact c2 (by rw [e9])
          rw [h3, Bool.and_false] at nx
          rw [show ∀ z : Int32, z + 0 = z from Int32.add_zero]
          exact nx
  refine e_X2_aliasesOf ⟨cax D.1, (X2_iterator_ hw D).rn ?_⟩
  rintro _ h1 - - ⟨rfl, I, b1, b2⟩
  exact key E.length 0 h1 rfl (Nat.zero_le _) b1 I b2
end D6
