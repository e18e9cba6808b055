/-! SPECS 5: texts, entries, the directory's reading -/
set_option maxRecDepth 100000
/-- an entry: its address, its name, the member to which it was given (none for a member), its text's address -/
abbrev EN : Type := Nat × Nat × Option Nat × Nat
abbrev ea (e : EN) : Nat := e.1
abbrev en (e : EN) : Nat := e.2.1
abbrev eg (e : EN) : Option Nat := e.2.2.1
abbrev et (e : EN) : Nat := e.2.2.2
def ecell (nm : Nat) (g : Option Nat) (t : Nat) : e_ := match g with
  | none => eO 5 [.int (nI nm), .ref t]
  | some x => eO 6 [.int (nI nm), .ref t, .int (nI x)]
def ent (h : hp_) (e : EN) : Prop := hget h (ea e) = some (ecell (en e) (eg e) (et e)) ∧ en e < 676 ∧ ∀ x, eg e = some x → x < 676
theorem ent.le {h h' : hp_} {e : EN} (k : ent h e) (x : Le h h') : ent h' e := ⟨x _ _ k.1, k.2⟩
theorem ent.cls {h : hp_} {e : EN} (k : ent h e) : ∃ c, cls_at h (ea e) = some c ∧ c ∈ ([5, 6] : List Nat) := by
  obtain ⟨a, nm, g, t⟩ := e
  cases g with
  | none => exact ⟨5, cax k.1, by simp⟩
  | some x => exact ⟨6, cax k.1, by simp⟩
theorem ent.obk {h : hp_} {e : EN} (k : ent h e) : obk h (ea e) := by
  obtain ⟨a, nm, g, t⟩ := e
  cases g with
  | none => exact Or.inl ⟨5, _, k.1, by decide⟩
  | some x => exact Or.inl ⟨6, _, k.1, by decide⟩
theorem ent.eqk {h : hp_} {e : EN} (k : ent h e) : eqk h (ea e) := by
  obtain ⟨a, nm, g, t⟩ := e
  cases g with
  | none => exact ⟨5, cax k.1, Or.inl rfl⟩
  | some x => exact ⟨6, cax k.1, Or.inr rfl⟩
theorem ent.name {h : hp_} {e : EN} (k : ent h e) : gf fd_X5_name h (ea e) = some (.int (nI (en e))) := by
  obtain ⟨a, nm, g, t⟩ := e
  cases g with
  | none => exact gfx k.1 rfl rfl
  | some x => exact gfx k.1 rfl rfl
theorem ent.text {h : hp_} {e : EN} (k : ent h e) : gf fd_X5_text h (ea e) = some (.ref (et e)) := by
  obtain ⟨a, nm, g, t⟩ := e
  cases g with
  | none => exact gfx k.1 rfl rfl
  | some x => exact gfx k.1 rfl rfl
theorem ent.isA {G : g_} {h : hp_} {e : EN} (k : ent h e) {P : Int32 → hp_ → Prop} (hk : P (bI (eg e).isSome) h) : pck [(5, M_X5_isAlias), (6, M_X6_isAlias)] [.ref (ea e)] h (fun m' => Do_ G m' [.ref (ea e)] h (RI P)) := by
  obtain ⟨a, nm, g, t⟩ := e
  cases g with
  | none => exact Or.inl ⟨cax k.1, e_X5_isAlias ⟨nI_b0, _, rfl, hk⟩⟩
  | some x => exact Or.inr (Or.inl ⟨cax k.1, e_X6_isAlias ⟨nI_b1, _, rfl, hk⟩⟩)
/-- a text -/
def txt (h : hp_) (t st ln mk : Nat) : Prop := hget h t = some (eO 7 [.int (nI st), .int (nI ln), .int (nI mk)])
theorem txt.le {h h' : hp_} {t st ln mk : Nat} (k : txt h t st ln mk) (x : Le h h') : txt h' t st ln mk := x _ _ k
section D5
variable {G : g_} {h : hp_}
theorem X7_end_ {t st ln mk : Nat} (k : txt h t st ln mk) : QE G M_X7_end [.ref t] h (nI (st + ln)) := e_X7_end ⟨_, gfx k rfl rfl, _, gfx k rfl rfl, _, rfl, nI_add' _ _, rfl⟩
theorem X7_init_ {t : Nat} {a b c x y z : Int32} (k : hget h t = some (eO 7 [.int a, .int b, .int c])) : Do_ G M_X7_init [.ref t, .int x, .int y, .int z] h (RV fun h' => h' = hset h t (eO 7 [.int x, .int y, .int z])) := by
  refine e_X7_init ⟨_, pfx k rfl rfl rfl, _, pfx (hset_at _ _ _) rfl rfl rfl, _, pfx (hset_at _ _ _) rfl rfl rfl, rfl, ?_⟩
  rw [hset_hset, hset_hset]
  rfl
theorem X7_at_ {t st ln mk : Nat} {x : Int32} (hw : hwf h) (k : txt h t st ln mk) : Do_ G M_X7_at [.ref t, .int x] h (RN fun y h' => y = hsz h ∧ h' = hnew h (eO 7 [.int x, .int (nI ln), .int (nI mk)]) 3) := by
  have k1 : txt (hnew h (eO 7 [.int 0, .int 0, .int 0]) 3) t st ln mk := hnew_old hw k
  refine e_X7_at ⟨_, gfx k1 rfl rfl, _, gfx k1 rfl rfl, cax (hnew_at _ _ _), (X7_init_ (hnew_at _ _ _)).rv ?_⟩
  rintro _ - - rfl
  exact ⟨_, rfl, rfl, hset_new⟩
theorem X5_init_ {a t : Nat} {x : Int32} {fs : List Value} {c : Nat} (hc : c = 5 ∨ c = 6) (hf : 2 ≤ fs.length) (k : hget h a = some (eO c fs)) : Do_ G M_X5_init [.ref a, .int x, .ref t] h (RV fun h' => h' = hset h a (eO c ((fs.set 0 (.int x)).set 1 (.ref t)))) := by
  have h1 : fs.length.ble 0 = false := by
    cases fs with
    | nil => simp at hf
    | cons _ _ => rfl
  have h2 : (fs.set 0 (.int x)).length.ble 1 = false := by
    match fs, hf with
    | _ :: _ :: _, _ => rfl
  rcases hc with rfl | rfl
  · exact e_X5_init ⟨_, pfx k rfl h1 rfl, _, pfx (hset_at _ _ _) rfl h2 rfl, rfl, hset_hset _ _ _ _⟩
  · exact e_X5_init ⟨_, pfx k rfl h1 rfl, _, pfx (hset_at _ _ _) rfl h2 rfl, rfl, hset_hset _ _ _ _⟩
theorem X6_init_ {a t : Nat} {x y : Int32} {v0 v1 v2 : Value} (k : hget h a = some (eO 6 [v0, v1, v2])) : Do_ G M_X6_init [.ref a, .int x, .ref t, .int y] h (RV fun h' => h' = hset h a (eO 6 [.int x, .ref t, .int y])) := by
  refine e_X6_init ⟨cax k, (X5_init_ (Or.inr rfl) (by simp) k).rv ?_⟩
  rintro _ - - rfl
  refine ⟨_, pfx (hset_at _ _ _) rfl rfl rfl, rfl, ?_⟩
  rw [hset_hset]
  rfl
/-- an entry made anew under a name -/
theorem named_ {e : EN} {nm : Nat} (hw : hwf h) (k : ent h e) {P : Nat → hp_ → Prop} (hk : P (hsz h) (hnew h (ecell nm (eg e) (et e)) (if (eg e).isSome then 3 else 2))) : pck [(5, M_X5_named), (6, M_X6_named)] [.ref (ea e), .int (nI nm)] h (fun m' => Do_ G m' [.ref (ea e), .int (nI nm)] h (RN P)) := by
  have kt := k.text
  obtain ⟨a, n0, g, t⟩ := e
  cases g with
  | none =>
    refine Or.inl ⟨cax k.1, e_X5_named ⟨_, gfx (hnew_old hw k.1) rfl rfl, cax (hnew_at _ _ _), (X5_init_ (Or.inl rfl) (by simp) (hnew_at _ _ _)).rv ?_⟩⟩
    rintro _ - - rfl
    refine ⟨_, rfl, ?_⟩
    rw [hset_new]
    exact hk
  | some x =>
    refine Or.inr (Or.inl ⟨cax k.1, e_X6_named ⟨_, gfx (hnew_old hw k.1) rfl rfl, _, gfx (hnew_old hw k.1) rfl rfl, cax (hnew_at _ _ _), (X6_init_ (hnew_at _ _ _)).rv ?_⟩⟩)
    rintro _ - - rfl
    refine ⟨_, rfl, ?_⟩
    rw [hset_new]
    exact hk
/-- a directory: its list's places; its entries; its blocks -/
def DR (G : g_) (h : hp_) (d el ar n : Nat) (E : List EN) (bl : Nat) : Prop :=
  hget h d = some (eO 2 [.ref el, .int (nI bl)]) ∧ (∃ mc f, AL G h el (E.map ea) mc ar n f) ∧ (∀ e ∈ E, ent h e) ∧ E.length ≤ 24 ∧ bl ≤ 6
variable {d el ar n bl : Nat} {E : List EN}
theorem DR.le {h' : hp_} (D : DR G h d el ar n E bl) (x : Le h h') : DR G h' d el ar n E bl := by
  obtain ⟨d1, ⟨mc, f, d2⟩, d3, d4⟩ := D
  exact ⟨x _ _ d1, ⟨mc, f, d2.le x⟩, fun e he => (d3 e he).le x, d4⟩
/-- a directory's iterator -/
def IW (h : hp_) (it d i to : Nat) : Prop := ∃ fr, hget h it = some (eO 4 [.int (nI i), .int fr, .int (nI to), .ref d])
theorem X4_init_ {it : Nat} {fr to : Nat} {v0 v1 v2 v3 : Value} (k : hget h it = some (eO 4 [v0, v1, v2, v3])) : Do_ G M_X4_init [.ref it, .ref d, .int (nI fr), .int (nI to)] h (RV fun h' => h' = hset h it (eO 4 [.int (nI fr), .int (nI fr), .int (nI to), .ref d])) := by
  refine e_X4_init ⟨_, pfx k rfl rfl rfl, _, pfx (hset_at _ _ _) rfl rfl rfl, _, pfx (hset_at _ _ _) rfl rfl rfl, _, gfx (hset_at _ _ _) rfl rfl, _, pfx (hset_at _ _ _) rfl rfl rfl, rfl, ?_⟩
  rw [hset_hset, hset_hset, hset_hset]
  rfl
theorem X2_walk_ {fr to : Nat} (hw : hwf h) : Do_ G M_X2_walk [.ref d, .int (nI fr), .int (nI to)] h (RN fun it h' => it = hsz h ∧ IW h' it d fr to ∧ Le h h' ∧ hm h' ≤ hm h + 5) := by
  refine e_X2_walk ⟨cax (hnew_at _ _ _), (X4_init_ (hnew_at _ _ _)).rv ?_⟩
  rintro _ - - rfl
  rw [hset_new]
  exact ⟨_, rfl, rfl, ⟨_, hnew_at _ _ _⟩, Le.new hw _ _, by rw [hm_new]; omega⟩
theorem X2_iterator_ (hw : hwf h) (D : DR G h d el ar n E bl) : Do_ G M_X2_iterator [.ref d] h (RN fun it h' => it = hsz h ∧ IW h' it d 0 E.length ∧ Le h h' ∧ hm h' ≤ hm h + 5) := by
  obtain ⟨d1, ⟨mc, f, d2⟩, d3, d4⟩ := D
  refine e_X2_iterator ⟨_, gfx d1 rfl rfl, cax d2.1, (J2_size_ d2).use ⟨cax d1, ?_⟩⟩
  rw [List.length_map]
  refine (X2_walk_ (fr := 0) hw).rn ?_
  intro it h' _ _ k
  exact ⟨_, rfl, k⟩
theorem X4_hasNext_ {it i to : Nat} (I : IW h it d i to) (h1 : i < 2 ^ 31) (h2 : to < 2 ^ 31) : QE G M_X4_hasNext [.ref it] h (bI (decide (i < to))) := by
  obtain ⟨fr, I⟩ := I
  refine e_X4_hasNext ⟨_, gfx I rfl rfl, _, gfx I rfl rfl, fun c => ⟨nI_b0, _, rfl, ?_, rfl⟩, fun c => ⟨nI_b1, _, rfl, ?_, rfl⟩⟩
  · have := (nI_le' h2 h1).mp c
    rw [decide_eq_false (by omega)]; rfl
  · have : i < to := by
      rcases Nat.lt_or_ge i to with q | q
      · exact q
      · exact absurd ((nI_le' h2 h1).mpr q) c
    rw [decide_eq_true this]; rfl
/-- the one cell was written -/
def M1 (it : Nat) (h h' : hp_) : Prop := (∀ q, q ≠ it → hget h' q = hget h q) ∧ hm h' = hm h
theorem M1.le {it : Nat} {h0 h h' : hp_} (hw : hwf h0) (x : Le h0 h) (b : hsz h0 ≤ it) (m : M1 it h h') : Le h0 h' := fun q e z => by
  have := hlt hw z
  rw [m.1 q (by omega)]
  exact x q e z
theorem X4_next_ {it i to : Nat} {e : EN} (D : DR G h d el ar n E bl) (I : IW h it d i to) (hx : E[i]? = some e) :
    Do_ G M_X4_next [.ref it] h (RN fun y h' => y = ea e ∧ IW h' it d (i + 1) to ∧ M1 it h h') := by
  obtain ⟨fr, I⟩ := I
  obtain ⟨d1, ⟨mc, f, d2⟩, d3, d4⟩ := D
  have hi : i < E.length := (List.getElem?_eq_some_iff.mp hx).1
  have hne1 : d ≠ it := hgn d1 I (by simp)
  have hne2 : el ≠ it := hgn d2.1 I (by simp)
  have hne3 : ar ≠ it := hgn d2.2.1 I (by simp)
  have k : ent h e := d3 e (List.mem_of_getElem? hx)
  obtain ⟨c, hc1, hc2⟩ := k.cls
  have hne4 : ea e ≠ it := fun q => by
    rw [q] at hc1
    rw [cax I] at hc1
    cases hc1
    simp at hc2
  have A2 : AL G (hset h it (eO 4 [.int (nI i + 1), .int fr, .int (nI to), .ref d])) el (E.map ea) mc ar n f := d2.kept (hset_ne _ _ hne2) (hset_ne _ _ hne3)
  refine e_X4_next ⟨cax I, Do_.rn (P := fun y h' => y = ea e ∧ IW h' it d (i + 1) to ∧ M1 it h h') ?_ (fun y h' _ _ q => ⟨_, rfl, q⟩)⟩
  refine e_X4_next_2 ⟨_, gfx I rfl rfl, _, pfx I rfl rfl rfl, _, gfx (hset_at _ _ _) rfl rfl, _, gfx (c := 2) (fs := [.ref el, .int (nI bl)]) (by rw [hset_ne _ _ hne1]; exact d1) rfl rfl, _, gfx (hset_at _ _ _) rfl rfl, cax (fs := [.int mc, .ref ar, .int (nI (E.map ea).length)]) (by rw [hset_ne _ _ hne2]; exact d2.1), ?_⟩
  rw [show nI i + 1 = nI (i + 1) from nI_add' i 1] at A2 ⊢
  rw [show nI (i + 1) - 1 = nI i from nI_sub' (a := i + 1) (b := 1) (by omega)]
  refine (J2_get_ A2 (by rw [List.getElem?_map, hx]; rfl)).use ⟨c, ?_, hc2, _, rfl, rfl, ⟨fr, hset_at _ _ _⟩, fun q hq => hset_ne _ _ hq, hm_set _ _ _⟩
  unfold cls_at
  rw [hset_ne _ _ hne4]
  exact hc1
end D5
