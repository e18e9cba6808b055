/-! SPECS 8: entries: whom they follow, whether they are lost -/
set_option maxRecDepth 100000
section D8
variable {G : g_} {h : hp_} {d el ar n bl : Nat} {E : List EN}
def gvI (g : Option Nat) : Int32 := match g with
  | none => -5
  | some x => nI x
theorem given_ {e : EN} (k : ent h e) {P : Int32 → hp_ → Prop} (hk : P (gvI (eg e)) h) : pck [(5, M_X5_given), (6, M_X6_given)] [.ref (ea e)] h (fun m' => Do_ G m' [.ref (ea e)] h (RI P)) := by
  obtain ⟨a, nm, g, t⟩ := e
  cases g with
  | none => exact Or.inl ⟨cax k.1, e_X5_given ⟨_, rfl, hk⟩⟩
  | some x => exact Or.inr (Or.inl ⟨cax k.1, e_X6_given ⟨_, gfx k.1 rfl rfl, _, rfl, hk⟩⟩)
/-- an entry as it is when a member got another name -/
def bhd (e : EN) (o x : Nat) (a : Nat) : EN :=
  if en e = o then (a, x, eg e, et e) else if eg e = some o then (a, en e, some x, et e) else e
theorem X5_behind_ {e : EN} {o x : Nat} (hw : hwf h) (k : ent h e) (ho : o < 10000) (hc : eg e = none ∨ en e = o) {P : Nat → hp_ → Prop}
    (h1 : en e = o → ∀ z, P (hsz h) (hnew h (ecell x (eg e) (et e)) z) ∨ z ≠ (if (eg e).isSome then 3 else 2)) (h2 : en e ≠ o → P (ea e) h) :
    Do_ G M_X5_behind [.ref (ea e), .int (nI o), .int (nI x)] h (RN P) := by
  have hn := k.2.1
  refine e_X5_behind ⟨_, k.name, fun c => ⟨_, rfl, h2 (fun q => c (by rw [q]))⟩, fun c => named_ hw k ?_⟩
  have he : en e = o := (nI_eq' (by omega) (by omega)).mp (Classical.not_not.mp c)
  exact ⟨_, rfl, (h1 he _).resolve_right (fun q => q rfl)⟩
theorem behind_ {e : EN} {o x : Nat} (hw : hwf h) (k : ent h e) (ho : o < 10000) (hx : x < 676) {P : Nat → hp_ → Prop}
    (hP : ∀ a h', a = ea (bhd e o x (hsz h)) → (h' = h ∨ ∃ e' z, z ≤ 3 ∧ h' = hnew h e' z) → ent h' (bhd e o x (hsz h)) → P a h') :
    pck [(5, M_X5_behind), (6, M_X6_behind)] [.ref (ea e), .int (nI o), .int (nI x)] h (fun m' => Do_ G m' [.ref (ea e), .int (nI o), .int (nI x)] h (RN P)) := by
  have hn := k.2.1
  have hb1 : en e = o → bhd e o x (hsz h) = (hsz h, x, eg e, et e) := fun q => by unfold bhd; rw [if_pos q]
  have hb2 : en e ≠ o → eg e = some o → bhd e o x (hsz h) = (hsz h, en e, some x, et e) := fun q r => by unfold bhd; rw [if_neg q, if_pos r]
  have hb3 : en e ≠ o → eg e ≠ some o → bhd e o x (hsz h) = e := fun q r => by unfold bhd; rw [if_neg q, if_neg r]
  have n1 : en e = o → ∀ z, z = (if (eg e).isSome then 3 else 2) → P (hsz h) (hnew h (ecell x (eg e) (et e)) z) := by
    intro q z hz
    refine hP _ _ (by rw [hb1 q]) (Or.inr ⟨_, z, ?_, rfl⟩) ?_
    · rw [hz]; split <;> omega
    · rw [hb1 q]
      exact ⟨hnew_at _ _ _, hx, k.2.2⟩
  have n3 : en e ≠ o → eg e ≠ some o → P (ea e) h := by
    intro q r
    refine hP _ _ (by rw [hb3 q r]) (Or.inl rfl) ?_
    rw [hb3 q r]
    exact k
  have b5 : (eg e = none ∨ en e = o) → Do_ G M_X5_behind [.ref (ea e), .int (nI o), .int (nI x)] h (RN P) := by
    intro hc
    refine X5_behind_ hw k ho hc (fun q z => ?_) (fun q => n3 q ?_)
    · by_cases hz : z = (if (eg e).isSome then 3 else 2)
      · exact Or.inl (n1 q z hz)
      · exact Or.inr hz
    · rcases hc with hc | hc
      · rw [hc]; simp
      · exact absurd hc q
  have k0 := k
  obtain ⟨a, nm, g, t⟩ := e
  cases g with
  | none => exact Or.inl ⟨cax k.1, b5 (Or.inl rfl)⟩
  | some g =>
    have hg := k.2.2 g rfl
    refine Or.inr (Or.inl ⟨cax k.1, e_X6_behind ⟨_, k0.name, fun c => ⟨_, gfx k.1 rfl rfl, fun c2 => ⟨_, rfl, ?_⟩, fun c2 => ?_⟩, fun c => ⟨cax k.1, Do_.rn (b5 (Or.inr ?_)) (fun y h' _ _ q => ⟨_, rfl, q⟩)⟩⟩⟩)
    · exact n3 (fun q => c (by rw [q])) (fun q => c2 (by rw [Option.some.inj (show some g = some o from q)]))
    · have h1 : nm ≠ o := fun q => c (by rw [← q])
      have h2 : g = o := (nI_eq' (by omega) (by omega)).mp (Classical.not_not.mp c2)
      subst h2
      refine ⟨_, gfx (hnew_old hw k.1) rfl rfl, _, gfx (hnew_old hw k.1) rfl rfl, cax (hnew_at _ _ _), (X6_init_ (hnew_at _ _ _)).rv ?_⟩
      rintro _ - - rfl
      refine ⟨_, rfl, ?_⟩
      rw [hset_new]
      refine hP _ _ (by rw [hb2 h1 rfl]) (Or.inr ⟨_, 3, Nat.le_refl _, rfl⟩) ?_
      rw [hb2 h1 rfl]
      exact ⟨hnew_at _ _ _, hn, fun y hy => by rw [← Option.some.inj (show some x = some y from hy)]; exact hx⟩
    · exact (nI_eq' (by omega) (by omega)).mp (Classical.not_not.mp c)
/-- whether an entry is lost -/
def lost (E : List EN) (e : EN) : Bool := match eg e with
  | none => false
  | some g => match fnd E (nI g) with
    | none => true
    | some m => (eg m).isSome || !(et m == et e)
theorem isLost_ {e : EN} (hw : hwf h) (D : DR G h d el ar n E bl) (k : ent h e) {P : Int32 → hp_ → Prop} (hk : ∀ h', hwf h' → hsz h ≤ hsz h' → Le h h' → hm h' ≤ hm h + 5 → P (bI (lost E e)) h') :
    pck [(5, M_X5_isLost), (6, M_X6_isLost)] [.ref (ea e), .ref d] h (fun m' => Do_ G m' [.ref (ea e), .ref d] h (RI P)) := by
  have k0 := k
  obtain ⟨a, nm, g, t⟩ := e
  cases g with
  | none => exact Or.inl ⟨cax k.1, e_X5_isLost ⟨nI_b0, _, rfl, hk h hw (Nat.le_refl _) Le.rfl (Nat.le_add_right _ _)⟩⟩
  | some g =>
    refine Or.inr (Or.inl ⟨cax k.1, e_X6_isLost ⟨_, gfx k.1 rfl rfl, cax D.1, (X2_find_ hw D).ro ?_ ?_⟩⟩)
    · rintro h1 a1 a2 ⟨b1, b2, b3⟩
      refine ⟨nI_b1, _, rfl, ?_⟩
      have : lost E (a, nm, some g, t) = true := by unfold lost; simp [b1]
      have hh := hk h1 a1 a2 b2 b3
      rw [this] at hh
      exact hh
    · rintro _ h1 a1 a2 ⟨m, b1, rfl, b2, b3⟩
      have km : ent h1 m := (D.2.2.1 m (List.mem_of_find?_eq_some b1)).le b2
      have hh := hk h1 a1 a2 b2 b3
      refine km.isA ⟨fun c => ⟨nI_b1, _, rfl, ?_⟩, fun c => ⟨_, km.text, _, (k0.le b2).text, fun c2 => ⟨nI_b0, _, rfl, ?_⟩, fun c2 => ⟨nI_b1, _, rfl, ?_⟩⟩⟩
      · have : lost E (a, nm, some g, t) = true := by unfold lost; simp [b1, (bI_ne0 _).mp c]
        rw [this] at hh
        exact hh
      · have h3 : et m = t := by simpa using c2
        have : lost E (a, nm, some g, t) = false := by
          have h4 : (eg m).isSome = false := (bI_0 _).mp (Classical.not_not.mp c)
          have h5 : (m.2.2.2 == t) = true := by rw [beq_iff_eq]; exact h3
          unfold lost; simp [b1, h4, h5]
        rw [this] at hh
        exact hh
      · have h3 : et m ≠ t := fun q => c2 (by rw [show et m = t from q])
        have : lost E (a, nm, some g, t) = true := by
          have h5 : (m.2.2.2 == t) = false := by rw [beq_eq_false_iff_ne]; exact h3
          unfold lost; simp [b1, h5]
        rw [this] at hh
        exact hh
end D8
