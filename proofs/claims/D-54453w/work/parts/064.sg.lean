/-! SPECS 14: a shelf's state, told without addresses -/
set_option maxRecDepth 100000
/-- a text: its start, length, mark -/
abbrev tt_ : Type := Nat × Nat × Nat
/-- a row: its name, the member to which it was given, its text -/
abbrev rw_ : Type := Nat × Option Nat × tt_
/-- a shelf: its rows, its texts, its blocks, squeezings, what was given back -/
abbrev sg_ : Type := List rw_ × List tt_ × Nat × Int32 × Int32
def tsum : List tt_ → Nat
  | [] => 0
  | t :: ts => t.2.1 + tsum ts
/-- texts lie one behind another -/
def chn : Nat → List tt_ → Prop
  | _, [] => True
  | s, t :: ts => t.1 = s ∧ 1 ≤ t.2.1 ∧ t.2.1 ≤ 40 ∧ t.2.2 ≤ 9999 ∧ chn (s + t.2.1) ts
def srt (R : List rw_) : Prop := R.Pairwise (fun a b => a.1 < b.1)
def WS (σ : sg_) : Prop := srt σ.1 ∧ (∀ r ∈ σ.1, r.1 < 676 ∧ (∀ x, r.2.1 = some x → x < 676) ∧ r.2.2 ∈ σ.2.1) ∧ σ.1.length ≤ 4 * σ.2.2.1 ∧ 1 ≤ σ.2.2.1 ∧ σ.2.2.1 ≤ 6 ∧ chn 0 σ.2.1 ∧ tsum σ.2.1 ≤ 100
/-- the rank of a name -/
def look (R : List rw_) (x : Int32) : Option Nat := R.findIdx? (fun r => decide (nI r.1 = x))
/-- where a name is put -/
def plc : List rw_ → Nat → Nat
  | [], _ => 0
  | r :: R, x => if r.1 < x then plc R x + 1 else 0
def insR (R : List rw_) (r : rw_) : List rw_ := R.insertIdx (plc R r.1) r
/-- whether a row has the text that starts there -/
def pts (R : List rw_) (s : Nat) : Bool := R.any (fun r => r.2.2.1 == s)
theorem tsum_app (a b : List tt_) : tsum (a ++ b) = tsum a + tsum b := by
  induction a with
  | nil => simp [tsum]
  | cons t a ih => simp only [List.cons_append, tsum, ih]; omega
theorem chn_app {s : Nat} {a b : List tt_} : chn s (a ++ b) ↔ chn s a ∧ chn (s + tsum a) b := by
  induction a generalizing s with
  | nil => simp [chn, tsum]
  | cons t a ih =>
    simp only [List.cons_append, chn, tsum, ih, ← Nat.add_assoc]
    constructor
    · rintro ⟨a1, a2, a3, a4, a5, a6⟩
      exact ⟨⟨a1, a2, a3, a4, a5⟩, a6⟩
    · rintro ⟨⟨a1, a2, a3, a4, a5⟩, a6⟩
      exact ⟨a1, a2, a3, a4, a5, a6⟩
theorem chn_at {s : Nat} {T : List tt_} (h : chn s T) {i : Nat} {t : tt_} (hi : T[i]? = some t) : t.1 = s + tsum (T.take i) ∧ 1 ≤ t.2.1 ∧ t.2.1 ≤ 40 ∧ t.2.2 ≤ 9999 ∧ t.1 + t.2.1 ≤ s + tsum T := by
  induction T generalizing s i with
  | nil => simp at hi
  | cons a T ih =>
    obtain ⟨h1, h2, h3, h4, h5⟩ := h
    cases i with
    | zero =>
      have : a = t := by simpa using hi
      subst this
      simp only [List.take_zero, tsum]
      omega
    | succ i =>
      have := ih h5 (by simpa using hi)
      simp only [List.take_succ_cons, tsum]
      omega
theorem tsum_take_le {T : List tt_} {i j : Nat} (h : i ≤ j) : tsum (T.take i) ≤ tsum (T.take j) := by
  induction T generalizing i j with
  | nil => simp
  | cons a T ih =>
    cases i with
    | zero => simp [tsum]
    | succ i =>
      cases j with
      | zero => omega
      | succ j =>
        have := ih (i := i) (j := j) (by omega)
        simp only [List.take_succ_cons, tsum]
        omega
theorem chn_lt {s : Nat} {T : List tt_} (h : chn s T) {i j : Nat} {t u : tt_} (hi : T[i]? = some t) (hj : T[j]? = some u) (hij : i < j) : t.1 + t.2.1 ≤ u.1 := by
  have a := chn_at h hi
  have b := chn_at h hj
  have c : tsum (T.take (i + 1)) ≤ tsum (T.take j) := tsum_take_le hij
  rw [List.take_add_one, hi, tsum_app] at c
  simp only [Option.toList, tsum] at c
  omega
theorem chn_inj {s : Nat} {T : List tt_} (h : chn s T) {i j : Nat} {t u : tt_} (hi : T[i]? = some t) (hj : T[j]? = some u) (e : t.1 = u.1) : i = j := by
  have a := chn_at h hi
  have b := chn_at h hj
  rcases Nat.lt_trichotomy i j with q | q | q
  · have := chn_lt h hi hj q
    omega
  · exact q
  · have := chn_lt h hj hi q
    omega
theorem chn_len {s : Nat} {T : List tt_} (h : chn s T) : T.length ≤ tsum T := by
  induction T generalizing s with
  | nil => simp [tsum]
  | cons a T ih =>
    obtain ⟨h1, h2, h3, h4, h5⟩ := h
    have := ih h5
    simp only [List.length_cons, tsum]
    omega
theorem chn_last {s : Nat} {T : List tt_} (h : chn s T) {t : tt_} (ht : T[T.length - 1]? = some t) : t.1 + t.2.1 = s + tsum T := by
  have a := chn_at h ht
  have hl : T.length - 1 < T.length := (List.getElem?_eq_some_iff.mp ht).1
  have e : tsum (T.take (T.length - 1 + 1)) = tsum T := by rw [List.take_of_length_le (by omega)]
  rw [List.take_add_one, ht, tsum_app] at e
  simp only [Option.toList, tsum] at e
  omega
/-! names -/
theorem look_some {R : List rw_} {x : Int32} {i : Nat} (h : look R x = some i) : ∃ r, R[i]? = some r ∧ nI r.1 = x ∧ ∀ (j : Nat) (y : rw_), j < i → R[j]? = some y → nI y.1 ≠ x := by
  unfold look at h
  rw [List.findIdx?_eq_some_iff_getElem] at h
  obtain ⟨h1, h2, h3⟩ := h
  refine ⟨R[i], List.getElem?_eq_getElem h1, of_decide_eq_true h2, fun j y hj hy => ?_⟩
  have := h3 j hj
  have e : R[j]'(by omega) = y := by
    rw [List.getElem?_eq_getElem (by omega)] at hy
    exact Option.some.inj hy
  rw [e] at this
  exact of_decide_eq_false (by simpa using this)
theorem look_none {R : List rw_} {x : Int32} (h : look R x = none) : ∀ r ∈ R, nI r.1 ≠ x := by
  unfold look at h
  rw [List.findIdx?_eq_none_iff] at h
  intro r hr
  exact of_decide_eq_false (h r hr)
theorem look_of {R : List rw_} {x : Int32} {i : Nat} {r : rw_} (h1 : R[i]? = some r) (h2 : nI r.1 = x) (h3 : ∀ (j : Nat) (y : rw_), j < i → R[j]? = some y → nI y.1 ≠ x) : look R x = some i := by
  unfold look
  rw [List.findIdx?_eq_some_iff_getElem]
  obtain ⟨a, b⟩ := List.getElem?_eq_some_iff.mp h1
  refine ⟨a, by rw [b]; exact decide_eq_true h2, fun j hj => ?_⟩
  have := h3 j _ hj (List.getElem?_eq_getElem (by omega))
  simpa using this
theorem look_no {R : List rw_} {x : Int32} (h : ∀ r ∈ R, nI r.1 ≠ x) : look R x = none := by
  unfold look
  rw [List.findIdx?_eq_none_iff]
  intro r hr
  exact decide_eq_false (h r hr)
theorem srt_lt {R : List rw_} (h : srt R) {i j : Nat} {a b : rw_} (hi : R[i]? = some a) (hj : R[j]? = some b) (hij : i < j) : a.1 < b.1 := by
  obtain ⟨h1, h2⟩ := List.getElem?_eq_some_iff.mp hi
  obtain ⟨h3, h4⟩ := List.getElem?_eq_some_iff.mp hj
  have := List.pairwise_iff_getElem.mp h i j h1 h3 hij
  rw [h2, h4] at this
  exact this
theorem srt_inj {R : List rw_} (h : srt R) {i j : Nat} {a b : rw_} (hi : R[i]? = some a) (hj : R[j]? = some b) (e : a.1 = b.1) : i = j := by
  rcases Nat.lt_trichotomy i j with q | q | q
  · have := srt_lt h hi hj q; omega
  · exact q
  · have := srt_lt h hj hi q; omega
theorem plc_le : ∀ (R : List rw_) (x : Nat), plc R x ≤ R.length
  | [], _ => Nat.le_refl _
  | r :: R, x => by
    unfold plc
    have := plc_le R x
    rw [List.length_cons]
    split <;> omega
theorem plc_lt : ∀ {R : List rw_} {x i : Nat} {r : rw_}, i < plc R x → R[i]? = some r → r.1 < x
  | [], x, i, r, h, hi => by simp at hi
  | a :: R, x, i, r, h, hi => by
    unfold plc at h
    by_cases hx : a.1 < x
    · rw [if_pos hx] at h
      cases i with
      | zero =>
        have : a = r := by simpa using hi
        rw [← this]; exact hx
      | succ i => exact plc_lt (R := R) (x := x) (i := i) (by omega) (by simpa using hi)
    · rw [if_neg hx] at h; omega
theorem plc_ge : ∀ {R : List rw_} {x i : Nat} {r : rw_}, srt R → plc R x ≤ i → R[i]? = some r → x ≤ r.1
  | [], x, i, r, _, h, hi => by simp at hi
  | a :: R, x, i, r, hs, h, hi => by
    unfold plc at h
    have hs2 : srt R := (List.pairwise_cons.mp hs).2
    by_cases hx : a.1 < x
    · rw [if_pos hx] at h
      cases i with
      | zero => omega
      | succ i => exact plc_ge (R := R) (x := x) (i := i) hs2 (by omega) (by simpa using hi)
    · cases i with
      | zero =>
        have : a = r := by simpa using hi
        rw [← this]; omega
      | succ i =>
        have := (List.pairwise_cons.mp hs).1 r (List.mem_of_getElem? (by simpa using hi : R[i]? = some r))
        omega
theorem insR_cons_lt {a r : rw_} {R : List rw_} (h : a.1 < r.1) : insR (a :: R) r = a :: insR R r := by
  unfold insR
  rw [show plc (a :: R) r.1 = plc R r.1 + 1 from by rw [plc, if_pos h]]
  rfl
theorem insR_cons_ge {a r : rw_} {R : List rw_} (h : ¬ a.1 < r.1) : insR (a :: R) r = r :: a :: R := by
  unfold insR
  rw [show plc (a :: R) r.1 = 0 from by rw [plc, if_neg h]]
  rfl
theorem insR_nil {r : rw_} : insR [] r = [r] := rfl
theorem mem_insR {R : List rw_} {r x : rw_} : x ∈ insR R r ↔ x = r ∨ x ∈ R := List.mem_insertIdx (plc_le R r.1)
theorem insR_len {R : List rw_} {r : rw_} : (insR R r).length = R.length + 1 := List.length_insertIdx_of_le_length (plc_le R r.1) r
theorem srt_insR : ∀ {R : List rw_} {r : rw_}, srt R → (∀ x ∈ R, x.1 ≠ r.1) → srt (insR R r)
  | [], r, _, _ => by rw [insR_nil]; exact List.pairwise_singleton _ _
  | a :: R, r, hs, hn => by
    obtain ⟨h1, h2⟩ := List.pairwise_cons.mp hs
    by_cases ha : a.1 < r.1
    · rw [insR_cons_lt ha]
      refine List.pairwise_cons.mpr ⟨fun x hx => ?_, srt_insR h2 (fun x hx => hn x (List.mem_cons_of_mem _ hx))⟩
      rcases mem_insR.mp hx with rfl | hx
      · exact ha
      · exact h1 x hx
    · rw [insR_cons_ge ha]
      have : r.1 < a.1 := by have := hn a (List.mem_cons_self ..); omega
      refine List.pairwise_cons.mpr ⟨fun x hx => ?_, hs⟩
      rcases List.mem_cons.mp hx with rfl | hx
      · exact this
      · have := h1 x hx; omega
/-- two rows put in, in either order -/
theorem insR_comm : ∀ {R : List rw_} {a b : rw_}, a.1 ≠ b.1 → insR (insR R a) b = insR (insR R b) a
  | [], a, b, h => by
    rw [insR_nil, insR_nil]
    by_cases hab : a.1 < b.1
    · rw [insR_cons_lt hab, insR_cons_ge (by omega), insR_nil]
    · rw [insR_cons_ge hab, insR_cons_lt (by omega), insR_nil]
  | c :: R, a, b, h => by
    by_cases ha : c.1 < a.1
    · by_cases hb : c.1 < b.1
      · rw [insR_cons_lt ha, insR_cons_lt hb, insR_cons_lt hb, insR_cons_lt ha, insR_comm h]
      · rw [insR_cons_lt ha, insR_cons_ge hb, insR_cons_ge hb, insR_cons_lt (by omega), insR_cons_lt ha]
    · by_cases hb : c.1 < b.1
      · rw [insR_cons_ge ha, insR_cons_lt hb, insR_cons_lt (by omega), insR_cons_lt hb, insR_cons_ge ha]
      · rw [insR_cons_ge ha, insR_cons_ge hb]
        by_cases hab : a.1 < b.1
        · rw [insR_cons_lt hab, insR_cons_ge hb, insR_cons_ge (by omega)]
        · rw [insR_cons_ge hab, insR_cons_lt (by omega), insR_cons_ge ha]
/-- put behind all that is less -/
theorem insR_end : ∀ {R : List rw_} {r : rw_}, (∀ x ∈ R, x.1 < r.1) → insR R r = R ++ [r]
  | [], r, _ => rfl
  | a :: R, r, h => by
    rw [insR_cons_lt (h a (List.mem_cons_self ..)), insR_end (fun x hx => h x (List.mem_cons_of_mem _ hx))]
    rfl
