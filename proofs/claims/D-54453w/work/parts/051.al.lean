/-! SPECS 1: checkIndex, ArrayList: what does not write -/
set_option maxRecDepth 100000
theorem hgn {h : hp_} {a b : Nat} {x y : e_} (p : hget h a = some x) (q : hget h b = some y) (n : x ≠ y) : a ≠ b := fun e => n (by rw [e, q] at p; exact (Option.some.inj p).symm)
section AL1
variable {G : g_} {h : hp_}
def QR (G : g_) (m : mt_) (av : List Value) (h : hp_) (a : Nat) : Prop := Do_ G m av h (RN fun y h' => y = a ∧ h' = h)
theorem QR.use {m : mt_} {av : List Value} {a : Nat} {P : Nat → hp_ → Prop} (k : QR G m av h a) (hk : P a h) : Do_ G m av h (RN P) := by
  refine Do_.rn k ?_
  rintro _ _ - - ⟨rfl, rfl⟩
  exact hk
theorem J9_ci {i n : Nat} {w : Option Nat} (hi : i < n) (hn : n < 2 ^ 31) : QE G M_J9_checkIndex [.int (nI i), .int (nI n), va_rf w] h (nI i) :=
  e_J9_checkIndex ⟨fun c => absurd c (nI_pos (by omega)), fun _ => ⟨fun _ => ⟨_, rfl, rfl, rfl⟩, fun c => absurd ((nI_lt' (by omega) hn).mpr hi) c⟩⟩
theorem J8_ci {i n : Nat} (hi : i < n) (hn : n < 2 ^ 31) : QE G M_J8_checkIndex [.int (nI i), .int (nI n)] h (nI i) :=
  e_J8_checkIndex ((J9_ci (w := none) hi hn).use ⟨_, rfl, rfl, rfl⟩)
/-- an ArrayList of the claim's: what it holds; its array -/
def AL (G : g_) (h : hp_) (l : Nat) (X : List Nat) (mc : Int32) (ar n : Nat) (f : Nat → Option Nat) : Prop :=
  hget h l = some (eO 11 [.int mc, .ref ar, .int (nI X.length)]) ∧ hget h ar = some (eR n f) ∧ X.length ≤ n ∧ n ≤ 150 ∧ (∀ (i x : Nat), X[i]? = some x → f i = some x) ∧ (n = 0 → ar = gz G) ∧ (n = 0 ∨ 10 ≤ n)
variable {l : Nat} {X : List Nat} {mc : Int32} {ar n : Nat} {f : Nat → Option Nat}
theorem AL.len (A : AL G h l X mc ar n f) : X.length ≤ 150 := Nat.le_trans A.2.2.1 A.2.2.2.1
theorem AL.kept {h' : hp_} (A : AL G h l X mc ar n f) (h1 : hget h' l = hget h l) (h2 : hget h' ar = hget h ar) : AL G h' l X mc ar n f := by
  unfold AL
  rw [h1, h2]
  exact A
theorem AL.le {h' : hp_} (A : AL G h l X mc ar n f) (x : Le h h') : AL G h' l X mc ar n f := ⟨x _ _ A.1, x _ _ A.2.1, A.2.2⟩
theorem J2_size_ (A : AL G h l X mc ar n f) : QE G M_J2_size [.ref l] h (nI X.length) := e_J2_size ⟨_, gfx A.1 rfl rfl, _, rfl, rfl, rfl⟩
theorem J2_isEmpty_ (A : AL G h l X mc ar n f) : QE G M_J2_isEmpty [.ref l] h (bI (decide (X.length = 0))) := by
  have hl := A.len
  refine e_J2_isEmpty ⟨_, gfx A.1 rfl rfl, fun c => ⟨nI_b0, _, rfl, ?_, rfl⟩, fun c => ⟨nI_b1, _, rfl, ?_, rfl⟩⟩
  · have : X.length ≠ 0 := fun e => c (by rw [e]; rfl)
    rw [decide_eq_false this]; rfl
  · have : X.length = 0 := (nI_eq' (a := X.length) (b := 0) (by omega) (by omega)).mp (Classical.not_not.mp c)
    rw [decide_eq_true this]; rfl
theorem J2_eD_ {i x : Nat} (A : AL G h l X mc ar n f) (hx : X[i]? = some x) : QR G M_J2_elementData [.ref l, .int (nI i)] h x := by
  have hl := A.len
  have hi : i < X.length := (List.getElem?_eq_some_iff.mp hx).1
  have := A.2.2.1
  have := A.2.2.2.1
  exact e_J2_elementData ⟨_, gfx A.1 rfl rfl, _, _, i, A.2.1, ix_nI (by omega) (by omega), Or.inr ⟨x, A.2.2.2.2.1 i x hx, _, rfl, rfl, rfl⟩⟩
theorem J2_get_ {i x : Nat} (A : AL G h l X mc ar n f) (hx : X[i]? = some x) : QR G M_J2_get [.ref l, .int (nI i)] h x := by
  have hl := A.len
  have hi : i < X.length := (List.getElem?_eq_some_iff.mp hx).1
  exact e_J2_get ⟨_, gfx A.1 rfl rfl, (J8_ci hi (by omega)).use ⟨cax A.1, (J2_eD_ A hx).use ⟨_, rfl, rfl, rfl⟩⟩⟩
/-- a list's own iterator -/
def IT (h : hp_) (it l : Nat) (mc : Int32) (i : Nat) : Prop := ∃ lr, hget h it = some (eO 14 [.int (nI i), .int lr, .int mc, .ref l])
theorem J13_hasNext_ {it i : Nat} (A : AL G h l X mc ar n f) (I : IT h it l mc i) (hi : i ≤ X.length) : QE G M_J13_hasNext [.ref it] h (bI (decide (i < X.length))) := by
  obtain ⟨lr, I⟩ := I
  have hl := A.len
  refine e_J13_hasNext ⟨_, gfx I rfl rfl, _, gfx I rfl rfl, _, gfx A.1 rfl rfl, fun c => ⟨nI_b0, _, rfl, ?_, rfl⟩, fun c => ⟨nI_b1, _, rfl, ?_, rfl⟩⟩
  · have := (nI_eq' (by omega) (by omega)).mp c
    rw [decide_eq_false (by omega)]; rfl
  · have : i ≠ X.length := fun e => c (by rw [e])
    rw [decide_eq_true (by omega)]; rfl
theorem J13_cfc_ {it i : Nat} (A : AL G h l X mc ar n f) (I : IT h it l mc i) : Do_ G M_J13_checkForComodification [.ref it] h (RV fun h' => h' = h) := by
  obtain ⟨lr, I⟩ := I
  exact e_J13_checkForComodification ⟨_, gfx I rfl rfl, _, gfx A.1 rfl rfl, _, gfx I rfl rfl, fun _ => ⟨rfl, rfl⟩, fun c => c rfl⟩
theorem J13_next_ {it i x : Nat} (A : AL G h l X mc ar n f) (I : IT h it l mc i) (hx : X[i]? = some x) :
    Do_ G M_J13_next [.ref it] h (RN fun y h' => y = x ∧ h' = hset h it (eO 14 [.int (nI (i + 1)), .int (nI i), .int mc, .ref l])) := by
  have hcf := J13_cfc_ A I
  obtain ⟨lr, I⟩ := I
  have hl := A.len
  have hi : i < X.length := (List.getElem?_eq_some_iff.mp hx).1
  have hn := A.2.2.1
  have hn' := A.2.2.2.1
  refine e_J13_next ⟨cax I, hcf.rv ?_⟩
  rintro _ - - rfl
  refine ⟨_, gfx I rfl rfl, _, gfx I rfl rfl, _, gfx A.1 rfl rfl, fun _ => ⟨_, gfx I rfl rfl, _, gfx A.1 rfl rfl, _, alx A.2.1, fun _ => ?_, fun c => c ((nI_lt' (by omega) (by omega)).mpr (by omega))⟩, fun c => c ((nI_lt' (by omega) (by omega)).mpr hi)⟩
  refine ⟨_, pfx I rfl rfl rfl, _, pfx (hset_at _ _ _) rfl rfl rfl, n, f, i, ?_, ix_nI (by omega) (by omega), Or.inr ⟨x, A.2.2.2.2.1 i x hx, _, rfl, rfl, ?_⟩⟩
  · have hne : ar ≠ it := hgn A.2.1 I (by simp)
    rw [hset_ne _ _ hne, hset_ne _ _ hne]
    exact A.2.1
  · rw [show nI i + 1 = nI (i + 1) from nI_add' i 1]
    unfold hset
    refine Prod.ext (funext fun q => ?_) rfl
    by_cases hq : q = it
    · simp [hq]
    · simp [hq]
theorem hset_hset (h : hp_) (a : Nat) (e e' : e_) : hset (hset h a e) a e' = hset h a e' := by
  unfold hset
  refine Prod.ext (funext fun q => ?_) rfl
  by_cases hq : q = a
  · simp [hq]
  · simp [hq]
theorem J13_init_ {it : Nat} {lr x0 : Int32} {c0 : Int32} {v0 : Value} (A : AL G h l X mc ar n f) (I : hget h it = some (eO 14 [.int c0, .int lr, .int x0, v0])) :
    Do_ G M_J13_init [.ref it, .ref l] h (RV fun h' => h' = hset h it (eO 14 [.int c0, .int (-1), .int mc, .ref l])) := by
  refine e_J13_init ⟨_, pfx I rfl rfl rfl, _, pfx (hset_at _ _ _) rfl rfl rfl, _, gfx (hset_at _ _ _) rfl rfl, _, gfx (c := 11) (j := 0) (fs := [.int mc, .ref ar, .int (nI X.length)]) ?_ rfl rfl, _, pfx (hset_at _ _ _) rfl rfl rfl, rfl, ?_⟩
  · have hne : l ≠ it := hgn A.1 I (by simp)
    rw [hset_ne _ _ hne, hset_ne _ _ hne]
    exact A.1
  · rw [hset_hset, hset_hset]
    rfl
theorem J2_iterator_ (hw : hwf h) (A : AL G h l X mc ar n f) : Do_ G M_J2_iterator [.ref l] h (RN fun it h' => it = hsz h ∧ IT h' it l mc 0 ∧ Le h h' ∧ hm h' ≤ hm h + 5) := by
  refine e_J2_iterator ⟨cax (hnew_at _ _ _), (J13_init_ (A.le (Le.new hw _ _)) (hnew_at _ _ _)).rv ?_⟩
  rintro _ - - rfl
  refine ⟨_, rfl, rfl, ⟨_, hset_at _ _ _⟩, ?_, ?_⟩
  · intro a e z
    rw [hset_ne _ _ (by have := hlt hw z; omega)]
    exact hnew_old hw z
  · rw [hm_set, hm_new]
    omega
end AL1
