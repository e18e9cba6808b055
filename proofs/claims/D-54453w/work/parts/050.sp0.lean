/-! SPECS 0: what the specs of the methods are made of -/
set_option maxRecDepth 100000
def hm (h : hp_) : Nat := hsz h + hsl h
/-- all that was there is there -/
def Le (h h' : hp_) : Prop := ∀ a e, hget h a = some e → hget h' a = some e
/-- what lay below n is there -/
def Fr (n : Nat) (h h' : hp_) : Prop := ∀ a e, a < n → hget h a = some e → hget h' a = some e
theorem Le.rfl {h : hp_} : Le h h := fun _ _ x => x
theorem Le.trans {h h1 h2 : hp_} (x : Le h h1) (y : Le h1 h2) : Le h h2 := fun a e z => y a e (x a e z)
theorem Fr.rfl {n : Nat} {h : hp_} : Fr n h h := fun _ _ _ x => x
theorem Fr.trans {n : Nat} {h h1 h2 : hp_} (x : Fr n h h1) (y : Fr n h1 h2) : Fr n h h2 := fun a e l z => y a e l (x a e l z)
theorem Fr.weak {n k : Nat} {h h1 : hp_} (x : Fr n h h1) (l : k ≤ n) : Fr k h h1 := fun a e q z => x a e (by omega) z
theorem Le.fr {h h1 : hp_} (x : Le h h1) (n : Nat) : Fr n h h1 := fun a e _ z => x a e z
theorem Fr.le {h h1 : hp_} (hw : hwf h) (x : Fr (hsz h) h h1) : Le h h1 := fun a e z => x a e (hlt hw z) z
theorem Le.new {h : hp_} (hw : hwf h) (e : e_) (n : Nat) : Le h (hnew h e n) := fun _ _ z => hnew_old hw z
theorem Fr.new {h : hp_} (hw : hwf h) (k : Nat) (e : e_) (n : Nat) : Fr k h (hnew h e n) := (Le.new hw e n).fr k
theorem Fr.set {n : Nat} {h : hp_} {a : Nat} {e : e_} (l : n ≤ a) : Fr n h (hset h a e) := fun q x hq z => by
  rw [hset_ne h e (by omega)]
  exact z
theorem hm_set (h : hp_) (a : Nat) (e : e_) : hm (hset h a e) = hm h := by
  unfold hm
  rw [hsz_set, hsl_set]
theorem hm_new (h : hp_) (e : e_) (n : Nat) : hm (hnew h e n) = hm h + (n + 1) := by
  unfold hm
  rw [hsz_new, hsl_new]
  omega
theorem gfx {cs : List (Nat × Nat)} {h : hp_} {a c : Nat} {fs : List Value} {j : Nat} {v : Value} (hg : hget h a = some (eO c fs)) (hj : cs.lookup c = some j) (hv : fs[j]? = some v) : gf cs h a = some v := (gf_of hg hj).trans hv
theorem pfx {cs : List (Nat × Nat)} {h : hp_} {a c : Nat} {fs fs' : List Value} {j : Nat} {v : Value} (hg : hget h a = some (eO c fs)) (hj : cs.lookup c = some j) (hl : fs.length.ble j = false) (he : fs.set j v = fs') : pf cs h a v = some (hset h a (eO c fs')) := by
  rw [← he]
  refine pf_of hg hj ?_ v
  rcases Nat.lt_or_ge j fs.length with q | q
  · exact q
  · rw [Nat.ble_eq_true_of_le q] at hl; cases hl
theorem cax {h : hp_} {a c : Nat} {fs : List Value} (hg : hget h a = some (eO c fs)) : cls_at h a = some c := cls_at_of hg
theorem alx {h : hp_} {a n : Nat} {f : Nat → Option Nat} (hg : hget h a = some (eR n f)) : alen_ h a = some n := by
  unfold alen_; rw [hg]
theorem alxI {h : hp_} {a n : Nat} {f : Nat → Int32} (hg : hget h a = some (eI n f)) : alen_ h a = some n := by
  unfold alen_; rw [hg]
theorem alxB {h : hp_} {a n : Nat} {f : Nat → Int32} (hg : hget h a = some (eB n f)) : alen_ h a = some n := by
  unfold alen_; rw [hg]
section DO
variable {G : g_} {m : mt_} {av : List Value} {h : hp_}
theorem Do_.ri {P P' : Int32 → hp_ → Prop} (k : Do_ G m av h (RI P)) (hk : ∀ x h', hwf h' → hsz h ≤ hsz h' → P x h' → P' x h') : Do_ G m av h (RI P') := by
  refine k.mono ?_
  rintro o h' a1 a2 a3 ⟨x, e, p⟩
  exact ⟨x, e, hk x h' a1 a2 p⟩
theorem Do_.rn {P P' : Nat → hp_ → Prop} (k : Do_ G m av h (RN P)) (hk : ∀ x h', hwf h' → hsz h ≤ hsz h' → P x h' → P' x h') : Do_ G m av h (RN P') := by
  refine k.mono ?_
  rintro o h' a1 a2 a3 ⟨x, e, p⟩
  exact ⟨x, e, hk x h' a1 a2 p⟩
theorem Do_.rv {P P' : hp_ → Prop} (k : Do_ G m av h (RV P)) (hk : ∀ h', hwf h' → hsz h ≤ hsz h' → P h' → P' h') : Do_ G m av h (RV P') := by
  refine k.mono ?_
  rintro o h' a1 a2 a3 ⟨e, p⟩
  exact ⟨e, hk h' a1 a2 p⟩
theorem Do_.ro {A A' : hp_ → Prop} {B B' : Nat → hp_ → Prop} (k : Do_ G m av h (RO A B)) (ha : ∀ h', hwf h' → hsz h ≤ hsz h' → A h' → A' h') (hb : ∀ x h', hwf h' → hsz h ≤ hsz h' → B x h' → B' x h') : Do_ G m av h (RO A' B') := by
  refine k.mono ?_
  rintro o h' a1 a2 a3 (⟨e, p⟩ | ⟨x, e, p⟩)
  · exact Or.inl ⟨e, ha h' a1 a2 p⟩
  · exact Or.inr ⟨x, e, hb x h' a1 a2 p⟩
/-- an answer, the heap left as it is -/
def QE (G : g_) (m : mt_) (av : List Value) (h : hp_) (x : Int32) : Prop := Do_ G m av h (RI fun y h' => y = x ∧ h' = h)
theorem QE.use {x : Int32} {P : Int32 → hp_ → Prop} (k : QE G m av h x) (hk : P x h) : Do_ G m av h (RI P) := by
  refine Do_.ri k ?_
  rintro _ _ - - ⟨rfl, rfl⟩
  exact hk
/-- an answer, the heap but grown -/
def QI (G : g_) (m : mt_) (av : List Value) (h : hp_) (x : Int32) (k : Nat) : Prop := Do_ G m av h (RI fun y h' => y = x ∧ Le h h' ∧ hm h' ≤ hm h + k)
theorem QI.use {x : Int32} {n : Nat} {P : Int32 → hp_ → Prop} (k : QI G m av h x n) (hk : ∀ h', hwf h' → hsz h ≤ hsz h' → Le h h' → hm h' ≤ hm h + n → P x h') : Do_ G m av h (RI P) := by
  refine Do_.ri k ?_
  rintro _ h' a1 a2 ⟨rfl, b1, b2⟩
  exact hk h' a1 a2 b1 b2
theorem QE.qi {x : Int32} (k : QE G m av h x) (n : Nat) : QI G m av h x n := k.use ⟨rfl, Le.rfl, Nat.le_add_right _ _⟩
end DO
/-! numbers -/
theorem nI_add' (a b : Nat) : nI a + nI b = nI (a + b) := by
  unfold nI; exact (Int32.ofNat_add a b).symm
theorem nI_mul' (a b : Nat) : nI a * nI b = nI (a * b) := by
  unfold nI; exact (Int32.ofNat_mul a b).symm
theorem nI_sub' {a b : Nat} (h : b ≤ a) : nI a - nI b = nI (a - b) := by
  have : nI a = nI (a - b) + nI b := by rw [nI_add']; congr 1; omega
  rw [this]
  simp
theorem nI_lt' {a b : Nat} (ha : a < 2 ^ 31) (hb : b < 2 ^ 31) : nI a < nI b ↔ a < b := by
  rw [Int32.lt_iff_toInt_lt, nI_toInt ha, nI_toInt hb]; omega
theorem nI_le' {a b : Nat} (ha : a < 2 ^ 31) (hb : b < 2 ^ 31) : nI a ≤ nI b ↔ a ≤ b := by
  rw [Int32.le_iff_toInt_le, nI_toInt ha, nI_toInt hb]; omega
theorem nI_eq' {a b : Nat} (ha : a < 2 ^ 31) (hb : b < 2 ^ 31) : nI a = nI b ↔ a = b := by
  constructor
  · intro h
    have := congrArg Int32.toInt h
    rw [nI_toInt ha, nI_toInt hb] at this
    omega
  · rintro rfl; rfl
theorem nI_b0 : narrow .boolean (.int 0) = .int 0 := by decide +kernel
theorem nI_b1 : narrow .boolean (.int 1) = .int 1 := by decide +kernel
def bI (b : Bool) : Int32 := if b then 1 else 0
theorem bI_t : bI true = 1 := rfl
theorem bI_f : bI false = 0 := rfl
theorem bI_ne0 (b : Bool) : (¬ bI b = 0) ↔ b = true := by cases b <;> decide
theorem bI_0 (b : Bool) : bI b = 0 ↔ b = false := by cases b <;> decide
