/-! BASE 3: the instructions that leave the heap -/
set_option maxRecDepth 100000
/-- a reference or null -/
def rvk (v : Value) (P : Prop) : Prop := match v with
  | .ref _ => P
  | .null => P
  | _ => False
theorem rvk_rf (w : Option Nat) (P : Prop) : rvk (va_rf w) P ↔ P := by cases w <;> rfl
theorem rvk_of {v : Value} {P : Prop} (h : rvk v P) : (∃ w, v = va_rf w) ∧ P := by
  cases v with
  | ref a => exact ⟨⟨some a, rfl⟩, h⟩
  | null => exact ⟨⟨none, rfl⟩, h⟩
  | _ => exact h.elim
/-- a value of one slot -/
def catk (v : Value) (P : Prop) : Prop := match v with
  | .int _ => P
  | .ref _ => P
  | .null => P
  | _ => False
theorem catk_rf (w : Option Nat) (P : Prop) : catk (va_rf w) P ↔ P := by cases w <;> rfl
theorem catk_of {v : Value} {P : Prop} (h : catk v P) : v.category = 1 ∧ P := by
  cases v <;> first | exact ⟨rfl, h⟩ | exact h.elim
def nlk (v : Value) (A B : Prop) : Prop := match v with
  | .null => A
  | .ref _ => B
  | _ => False
theorem nlk_some (a : Nat) (A B : Prop) : nlk (va_rf (some a)) A B ↔ B := Iff.rfl
theorem nlk_none (A B : Prop) : nlk (va_rf none) A B ↔ A := Iff.rfl
def s_v (v : Value) (nx : Nat) : sem_ := fun L st h _ k => k nx L (v :: st) h
def s_ild (i nx : Nat) : sem_ := fun L st h _ k => match L[i]? with
  | some (some (.int x)) => k nx L (.int x :: st) h
  | _ => False
def s_lld (i nx : Nat) : sem_ := fun L st h _ k => match L[i]? with
  | some (some (.long x)) => k nx L (.long x :: st) h
  | _ => False
def s_ald (i nx : Nat) : sem_ := fun L st h _ k => match L[i]? with
  | some (some v) => rvk v (k nx L (v :: st) h)
  | _ => False
def s_ist (i nx : Nat) : sem_ := fun L st h _ k => match st with
  | .int x :: r => k nx (L.set i (some (.int x))) r h
  | _ => False
def s_ast (i nx : Nat) : sem_ := fun L st h _ k => match st with
  | v :: r => rvk v (k nx (L.set i (some v)) r h)
  | _ => False
def s_iinc (i : Nat) (c : Int32) (nx : Nat) : sem_ := fun L st h _ k => match L[i]? with
  | some (some (.int x)) => k nx (L.set i (some (.int (x + c)))) st h
  | _ => False
def s_bin (f : Int32 → Int32 → Int32) (nx : Nat) : sem_ := fun L st h _ k => match st with
  | .int y :: .int x :: r => k nx L (.int (f x y) :: r) h
  | _ => False
def s_idiv (nx : Nat) : sem_ := fun L st h _ k => match st with
  | .int y :: .int x :: r => ¬ y = 0 ∧ k nx L (.int (x / y) :: r) h
  | _ => False
def s_un (f : Int32 → Int32) (nx : Nat) : sem_ := fun L st h _ k => match st with
  | .int x :: r => k nx L (.int (f x) :: r) h
  | _ => False
def s_i2l (nx : Nat) : sem_ := fun L st h _ k => match st with
  | .int x :: r => k nx L (.long x.toInt64 :: r) h
  | _ => False
def s_lsub (nx : Nat) : sem_ := fun L st h _ k => match st with
  | .long y :: .long x :: r => k nx L (.long (x - y) :: r) h
  | _ => False
def s_lcmp (nx : Nat) : sem_ := fun L st h _ k => match st with
  | .long y :: .long x :: r => k nx L (.int (lg_cmp x y) :: r) h
  | _ => False
def s_dup (nx : Nat) : sem_ := fun L st h _ k => match st with
  | v :: r => catk v (k nx L (v :: v :: r) h)
  | _ => False
def s_pop (nx : Nat) : sem_ := fun L st h _ k => match st with
  | v :: r => catk v (k nx L r h)
  | _ => False
def s_dupx1 (nx : Nat) : sem_ := fun L st h _ k => match st with
  | v :: w :: r => catk v (catk w (k nx L (v :: w :: v :: r) h))
  | _ => False
def s_dup2 (nx : Nat) : sem_ := fun L st h _ k => match st with
  | v :: w :: r => catk v (catk w (k nx L (v :: w :: v :: w :: r) h))
  | _ => False
def s_goto (t : Nat) : sem_ := fun L st h _ k => k t L st h
/-- a branch on one int, on two -/
def s_if (P : Int32 → Prop) (t nx : Nat) : sem_ := fun L st h _ k => match st with
  | .int x :: r => (P x → k t L r h) ∧ (¬ P x → k nx L r h)
  | _ => False
def s_icmp (P : Int32 → Int32 → Prop) (t nx : Nat) : sem_ := fun L st h _ k => match st with
  | .int y :: .int x :: r => (P x y → k t L r h) ∧ (¬ P x y → k nx L r h)
  | _ => False
def s_ifnull (t nx : Nat) : sem_ := fun L st h _ k => match st with
  | v :: r => nlk v (k t L r h) (k nx L r h)
  | _ => False
def s_ifnon (t nx : Nat) : sem_ := fun L st h _ k => match st with
  | v :: r => nlk v (k nx L r h) (k t L r h)
  | _ => False
def s_acmp (eq : Bool) (t nx : Nat) : sem_ := fun L st h _ k => match st with
  | w :: v :: r => rvk v (rvk w ((v = w → k (bif eq then t else nx) L r h) ∧ (¬ v = w → k (bif eq then nx else t) L r h)))
  | _ => False
def tswk (x : Int32) (K : Nat → Prop) (d : Nat) : Int → List Nat → Prop
  | _, [] => K d
  | lo, t :: ts => (x = Int32.ofInt lo → K t) ∧ (¬ x = Int32.ofInt lo → tswk x K d (lo + 1) ts)
def s_tsw (lo : Int) (ts : List Nat) (d : Nat) : sem_ := fun L st h _ k => match st with
  | .int x :: r => tswk x (fun t => k t L r h) d lo ts
  | _ => False
section OK
variable {G : g_} {m : mt_} {pc : Nat}
theorem o_iconst {n : Int} {x : Int32} (hd : decode (mB m) pc = .ok (.iconst n, 1)) (hv : Int32.ofInt n = x) : SemOK G m pc (s_v (.int x) (pc + 1)) :=
  fun _ _ _ _ _ hs hk => Go_.pure0 (fun cx _ _ kk => lv_iconst cx.ex cx.cb hd hv kk) (hk _ _ _ _ hs)
theorem o_bipush {n : Int} {x : Int32} (hd : decode (mB m) pc = .ok (.bipush n, 2)) (hv : (Int8.ofInt n).toInt32 = x) : SemOK G m pc (s_v (.int x) (pc + 2)) :=
  fun _ _ _ _ _ hs hk => Go_.pure0 (fun cx _ _ kk => lv_bipush cx.ex cx.cb hd hv kk) (hk _ _ _ _ hs)
theorem o_sipush {n : Int} {x : Int32} (hd : decode (mB m) pc = .ok (.sipush n, 3)) (hv : (Int16.ofInt n).toInt32 = x) : SemOK G m pc (s_v (.int x) (pc + 3)) :=
  fun _ _ _ _ _ hs hk => Go_.pure0 (fun cx _ _ kk => lv_sipush cx.ex cx.cb hd hv kk) (hk _ _ _ _ hs)
theorem o_lconst {n : Fin 2} {x : Int64} (hd : decode (mB m) pc = .ok (.lconst n, 1)) (hv : Int64.ofNat (n : Nat) = x) : SemOK G m pc (s_v (.long x) (pc + 1)) :=
  fun _ _ _ _ _ hs hk => Go_.pure0 (fun cx _ _ kk => lv_lconst cx.ex cx.cb hd hv kk) (hk _ _ _ _ hs)
theorem o_ldc {i : Nat} {x : Int32} (hd : decode (mB m) pc = .ok (.ldc i, 2)) (hw : Cond.constant (mY m).cls i x ∈ lw_all) : SemOK G m pc (s_v (.int x) (pc + 2)) :=
  fun _ _ _ _ _ hs hk => Go_.pure0 (fun cx _ _ kk => lv_ldc cx.ex cx.cb cx.ow (cx.ws _ hw) hd kk) (hk _ _ _ _ hs)
theorem o_ldc2 {i : Nat} {x : Int64} (hd : decode (mB m) pc = .ok (.ldc2_w i, 3)) (hw : Cond.constantLong (mY m).cls i x ∈ lw_all) : SemOK G m pc (s_v (.long x) (pc + 3)) :=
  fun _ _ _ _ _ hs hk => Go_.pure0 (fun cx _ _ kk => lv_ldc2 cx.ex cx.cb cx.ow (cx.ws _ hw) hd kk) (hk _ _ _ _ hs)
theorem o_null (hd : decode (mB m) pc = .ok (.aconst_null, 1)) : SemOK G m pc (s_v .null (pc + 1)) :=
  fun _ _ _ _ _ hs hk => Go_.pure0 (fun cx _ _ kk => lv_null cx.ex cx.cb hd kk) (hk _ _ _ _ hs)
theorem o_ldcM {i : Nat} (hd : decode (mB m) pc = .ok (.ldc i, 2)) (hw : Cond.classLink (mY m).cls i "[Ljava/lang/Object;" ∈ lw_all) : SemOK G m pc (s_v (.ref (gM G)) (pc + 2)) :=
  fun _ _ _ _ _ hs hk => Go_.pure0 (fun cx _ _ kk => va_ldcM cx.ex cx.cb cx.ow (cx.ws _ hw) cx.en.2.2.2.1 hd kk) (hk _ _ _ _ hs)
theorem o_iloadn {n : Fin 4} {i : Nat} (hd : decode (mB m) pc = .ok (.iload_n n, 1)) (hi : (n : Nat) = i) : SemOK G m pc (s_ild i (pc + 1)) := by
  intro L st h Q k hs hk
  unfold s_ild at hs
  split at hs
  · next x hx => exact Go_.pure0 (fun cx lr _ kk => lv_iload_n cx.ex cx.cb hd hi (lr.get hx) kk) (hk _ _ _ _ hs)
  · exact hs.elim
theorem o_iload {i : Nat} (hd : decode (mB m) pc = .ok (.iload i, 2)) : SemOK G m pc (s_ild i (pc + 2)) := by
  intro L st h Q k hs hk
  unfold s_ild at hs
  split at hs
  · next x hx => exact Go_.pure0 (fun cx lr _ kk => lv_iload cx.ex cx.cb hd (lr.get hx) kk) (hk _ _ _ _ hs)
  · exact hs.elim
theorem o_lloadn {n : Fin 4} {i : Nat} (hd : decode (mB m) pc = .ok (.lload_n n, 1)) (hi : (n : Nat) = i) : SemOK G m pc (s_lld i (pc + 1)) := by
  intro L st h Q k hs hk
  unfold s_lld at hs
  split at hs
  · next x hx => exact Go_.pure0 (fun cx lr _ kk => lv_lload_n cx.ex cx.cb hd hi (lr.get hx) kk) (hk _ _ _ _ hs)
  · exact hs.elim
theorem o_lload {i : Nat} (hd : decode (mB m) pc = .ok (.lload i, 2)) : SemOK G m pc (s_lld i (pc + 2)) := by
  intro L st h Q k hs hk
  unfold s_lld at hs
  split at hs
  · next x hx => exact Go_.pure0 (fun cx lr _ kk => lv_lload cx.ex cx.cb hd (lr.get hx) kk) (hk _ _ _ _ hs)
  · exact hs.elim
theorem o_aloadn {n : Fin 4} {i : Nat} (hd : decode (mB m) pc = .ok (.aload_n n, 1)) (hi : (n : Nat) = i) : SemOK G m pc (s_ald i (pc + 1)) := by
  intro L st h Q k hs hk
  unfold s_ald at hs
  split at hs
  · next v hx =>
    obtain ⟨⟨w, rfl⟩, hs⟩ := rvk_of hs
    refine Go_.pure0 (fun cx lr _ kk => ?_) (hk _ _ _ _ hs)
    cases w with
    | none => exact lv_aload_nN cx.ex cx.cb hd hi (lr.get hx) kk
    | some a => exact lv_aload_n cx.ex cx.cb hd hi (lr.get hx) kk
  · exact hs.elim
theorem o_aload {i : Nat} (hd : decode (mB m) pc = .ok (.aload i, 2)) : SemOK G m pc (s_ald i (pc + 2)) := by
  intro L st h Q k hs hk
  unfold s_ald at hs
  split at hs
  · next v hx =>
    obtain ⟨⟨w, rfl⟩, hs⟩ := rvk_of hs
    refine Go_.pure0 (fun cx lr _ kk => ?_) (hk _ _ _ _ hs)
    cases w with
    | none => exact lv_aloadN cx.ex cx.cb hd (lr.get hx) kk
    | some a => exact lv_aload cx.ex cx.cb hd (lr.get hx) kk
  · exact hs.elim
theorem o_istoren {n : Fin 4} {i : Nat} (hd : decode (mB m) pc = .ok (.istore_n n, 1)) (hi : (n : Nat) = i) (hN : mN m = true) (hl : i < mL m) : SemOK G m pc (s_ist i (pc + 1)) := by
  intro L st h Q k hs hk
  unfold s_ist at hs
  split at hs
  · next x r => exact Go_.pure (fun cx lr _ kk => lv_istore_n cx.ex cx.cb hd hi lr.has hl rfl fun ls' h' => kk ls' (lr.store hN rfl h')) (hk _ _ _ _ hs)
  · exact hs.elim
theorem o_istore {i : Nat} (hd : decode (mB m) pc = .ok (.istore i, 2)) (hN : mN m = true) (hl : i < mL m) : SemOK G m pc (s_ist i (pc + 2)) := by
  intro L st h Q k hs hk
  unfold s_ist at hs
  split at hs
  · next x r => exact Go_.pure (fun cx lr _ kk => lv_istore cx.ex cx.cb hd lr.has hl rfl fun ls' h' => kk ls' (lr.store hN rfl h')) (hk _ _ _ _ hs)
  · exact hs.elim
theorem o_astoren {n : Fin 4} {i : Nat} (hd : decode (mB m) pc = .ok (.astore_n n, 1)) (hi : (n : Nat) = i) (hN : mN m = true) (hl : i < mL m) : SemOK G m pc (s_ast i (pc + 1)) := by
  intro L st h Q k hs hk
  unfold s_ast at hs
  split at hs
  · next v r =>
    obtain ⟨⟨w, rfl⟩, hs⟩ := rvk_of hs
    refine Go_.pure (fun cx lr _ kk => ?_) (hk _ _ _ _ hs)
    cases w with
    | none => exact lv_astore_nN cx.ex cx.cb hd hi lr.has hl rfl fun ls' h' => kk ls' (lr.store hN rfl h')
    | some a => exact lv_astore_n cx.ex cx.cb hd hi lr.has hl rfl fun ls' h' => kk ls' (lr.store hN rfl h')
  · exact hs.elim
theorem o_astore {i : Nat} (hd : decode (mB m) pc = .ok (.astore i, 2)) (hN : mN m = true) (hl : i < mL m) : SemOK G m pc (s_ast i (pc + 2)) := by
  intro L st h Q k hs hk
  unfold s_ast at hs
  split at hs
  · next v r =>
    obtain ⟨⟨w, rfl⟩, hs⟩ := rvk_of hs
    refine Go_.pure (fun cx lr _ kk => ?_) (hk _ _ _ _ hs)
    cases w with
    | none => exact lv_astoreN cx.ex cx.cb hd lr.has hl rfl fun ls' h' => kk ls' (lr.store hN rfl h')
    | some a => exact lv_astore cx.ex cx.cb hd lr.has hl rfl fun ls' h' => kk ls' (lr.store hN rfl h')
  · exact hs.elim
theorem o_iinc {i : Nat} {n : Int} {c : Int32} (hd : decode (mB m) pc = .ok (.iinc i n, 3)) (hc : Int32.ofInt n = c) (hN : mN m = true) (hl : i < mL m) : SemOK G m pc (s_iinc i c (pc + 3)) := by
  intro L st h Q k hs hk
  unfold s_iinc at hs
  split at hs
  · next x hx =>
    obtain ⟨j, hj⟩ := List.getElem?_of_mem (mem_asc.mpr hx)
    subst hc
    exact Go_.pure (fun cx lr _ kk => lv_iinc cx.ex cx.cb hd lr.has hj rfl hl rfl fun ls' h' => kk ls' (lr.store hN rfl h')) (hk _ _ _ _ hs)
  · exact hs.elim
theorem o_bin {f : Int32 → Int32 → Int32} {nx : Nat}
    (hS : ∀ {p : Program} {e : Env} {R : Room} {s : State} {mi : MethodId} {args : Array Value} {below : List Frame} {meth : Method} {c : Code} {H : Heap} {locs : List Loc} {cells slots : Nat} {ls : Array Slot} {Qf : State → Prop} {x y : Int32} {r : List Value}, p.tables.exec = Jvm.exec → c.code = mB m →
      W p (gl G) e R s mi args below meth c H locs cells slots Qf (F0 mi nx ls (.int (f x y) :: r)) → W p (gl G) e R s mi args below meth c H locs cells slots Qf (F0 mi pc ls (.int y :: .int x :: r))) : SemOK G m pc (s_bin f nx) := by
  intro L st h Q k hs hk
  unfold s_bin at hs
  split at hs
  · exact Go_.pure0 (fun cx _ _ kk => hS cx.ex cx.cb kk) (hk _ _ _ _ hs)
  · exact hs.elim
theorem o_iadd (hd : decode (mB m) pc = .ok (.iadd, 1)) : SemOK G m pc (s_bin (fun x y => x + y) (pc + 1)) := o_bin fun hx hb k => lv_iadd hx hb hd k
theorem o_isub (hd : decode (mB m) pc = .ok (.isub, 1)) : SemOK G m pc (s_bin (fun x y => x - y) (pc + 1)) := o_bin fun hx hb k => lv_isub hx hb hd k
theorem o_imul (hd : decode (mB m) pc = .ok (.imul, 1)) : SemOK G m pc (s_bin (fun x y => x * y) (pc + 1)) := o_bin fun hx hb k => lv_imul hx hb hd k
theorem o_iand (hd : decode (mB m) pc = .ok (.iand, 1)) : SemOK G m pc (s_bin (fun x y => x &&& y) (pc + 1)) := o_bin fun hx hb k => lv_iand hx hb hd k
theorem o_ior (hd : decode (mB m) pc = .ok (.ior, 1)) : SemOK G m pc (s_bin (fun x y => x ||| y) (pc + 1)) := o_bin fun hx hb k => lv_ior hx hb hd k
theorem o_ishl (hd : decode (mB m) pc = .ok (.ishl, 1)) : SemOK G m pc (s_bin (fun x y => x <<< (y &&& 31)) (pc + 1)) := o_bin fun hx hb k => lv_ishl hx hb hd k
theorem o_ishr (hd : decode (mB m) pc = .ok (.ishr, 1)) : SemOK G m pc (s_bin (fun x y => x >>> (y &&& 31)) (pc + 1)) := o_bin fun hx hb k => lv_ishr hx hb hd k
theorem o_idiv (hd : decode (mB m) pc = .ok (.idiv, 1)) : SemOK G m pc (s_idiv (pc + 1)) := by
  intro L st h Q k hs hk
  unfold s_idiv at hs
  split at hs
  · exact Go_.pure0 (fun cx _ _ kk => lv_idiv cx.ex cx.cb hd hs.1 kk) (hk _ _ _ _ hs.2)
  · exact hs.elim
theorem o_i2b (hd : decode (mB m) pc = .ok (.i2b, 1)) : SemOK G m pc (s_un (fun x => x.toInt8.toInt32) (pc + 1)) := by
  intro L st h Q k hs hk
  unfold s_un at hs
  split at hs
  · exact Go_.pure0 (fun cx _ _ kk => lv_i2b cx.ex cx.cb hd rfl kk) (hk _ _ _ _ hs)
  · exact hs.elim
theorem o_i2c (hd : decode (mB m) pc = .ok (.i2c, 1)) : SemOK G m pc (s_un (fun x => (x.toUInt32 % 65536).toInt32) (pc + 1)) := by
  intro L st h Q k hs hk
  unfold s_un at hs
  split at hs
  · exact Go_.pure0 (fun cx _ _ kk => lv_i2c cx.ex cx.cb hd rfl kk) (hk _ _ _ _ hs)
  · exact hs.elim
theorem o_i2l (hd : decode (mB m) pc = .ok (.i2l, 1)) : SemOK G m pc (s_i2l (pc + 1)) := by
  intro L st h Q k hs hk
  unfold s_i2l at hs
  split at hs
  · exact Go_.pure0 (fun cx _ _ kk => lv_i2l cx.ex cx.cb hd rfl kk) (hk _ _ _ _ hs)
  · exact hs.elim
theorem o_lsub (hd : decode (mB m) pc = .ok (.lsub, 1)) : SemOK G m pc (s_lsub (pc + 1)) := by
  intro L st h Q k hs hk
  unfold s_lsub at hs
  split at hs
  · exact Go_.pure0 (fun cx _ _ kk => lv_lsub cx.ex cx.cb hd kk) (hk _ _ _ _ hs)
  · exact hs.elim
theorem o_lcmp (hd : decode (mB m) pc = .ok (.lcmp, 1)) : SemOK G m pc (s_lcmp (pc + 1)) := by
  intro L st h Q k hs hk
  unfold s_lcmp at hs
  split at hs
  · exact Go_.pure0 (fun cx _ _ kk => W.lcmp cx.ex cx.cb hd kk) (hk _ _ _ _ hs)
  · exact hs.elim
theorem o_dup (hd : decode (mB m) pc = .ok (.dup, 1)) : SemOK G m pc (s_dup (pc + 1)) := by
  intro L st h Q k hs hk
  unfold s_dup at hs
  split at hs
  · obtain ⟨hc, hs⟩ := catk_of hs
    exact Go_.pure0 (fun cx _ _ kk => lv_dup cx.ex cx.cb hd hc kk) (hk _ _ _ _ hs)
  · exact hs.elim
theorem o_pop (hd : decode (mB m) pc = .ok (.pop, 1)) : SemOK G m pc (s_pop (pc + 1)) := by
  intro L st h Q k hs hk
  unfold s_pop at hs
  split at hs
  · obtain ⟨hc, hs⟩ := catk_of hs
    exact Go_.pure0 (fun cx _ _ kk => lv_pop cx.ex cx.cb hd hc kk) (hk _ _ _ _ hs)
  · exact hs.elim
theorem o_dupx1 (hd : decode (mB m) pc = .ok (.dup_x1, 1)) : SemOK G m pc (s_dupx1 (pc + 1)) := by
  intro L st h Q k hs hk
  unfold s_dupx1 at hs
  split at hs
  · obtain ⟨hc, hs⟩ := catk_of hs
    obtain ⟨hc2, hs⟩ := catk_of hs
    exact Go_.pure0 (fun cx _ _ kk => lv_dup_x1 cx.ex cx.cb hd hc hc2 kk) (hk _ _ _ _ hs)
  · exact hs.elim
theorem o_dup2 (hd : decode (mB m) pc = .ok (.dup2, 1)) : SemOK G m pc (s_dup2 (pc + 1)) := by
  intro L st h Q k hs hk
  unfold s_dup2 at hs
  split at hs
  · obtain ⟨hc, hs⟩ := catk_of hs
    obtain ⟨hc2, hs⟩ := catk_of hs
    exact Go_.pure0 (fun cx _ _ kk => lv_dup2_11 cx.ex cx.cb hd hc hc2 kk) (hk _ _ _ _ hs)
  · exact hs.elim
theorem o_goto {off : Int} {t : Nat} (hd : decode (mB m) pc = .ok (.goto off, 3)) (ht : (pc : Int) + off = (t : Int)) : SemOK G m pc (s_goto t) :=
  fun _ _ _ _ _ hs hk => Go_.pure0 (fun cx _ _ kk => lv_goto cx.ex cx.cb hd ht kk) (hk _ _ _ _ hs)
/-- a branch: by what holds -/
theorem Go_.br {c : Prop} {L1 L2 L : L_} {st st1 st2 : List Value} {h : hp_} {t1 t2 : Nat} {Q : o_ → hp_ → Prop}
    (hS : ∀ {p : Program} {e : Env} {R : Room} {s : State} {mi : MethodId} {args : Array Value} {below : List Frame} {meth : Method} {c0 : Code} {H : Heap} {locs : List Loc} {cells slots : Nat} {ls : Array Slot} {Qf : State → Prop}, p.tables.exec = Jvm.exec → c0.code = mB m →
      (c → W p (gl G) e R s mi args below meth c0 H locs cells slots Qf (F0 mi t1 ls st1)) → (¬ c → W p (gl G) e R s mi args below meth c0 H locs cells slots Qf (F0 mi t2 ls st2)) → W p (gl G) e R s mi args below meth c0 H locs cells slots Qf (F0 mi pc ls st))
    (k1 : c → Go_ G m t1 L st1 h Q) (k2 : ¬ c → Go_ G m t2 L st2 h Q) : Go_ G m pc L st h Q := by
  rcases Classical.em c with hc | hc
  · exact Go_.pure0 (fun cx _ _ kk => hS cx.ex cx.cb (fun _ => kk) (fun n => absurd hc n)) (k1 hc)
  · exact Go_.pure0 (fun cx _ _ kk => hS cx.ex cx.cb (fun n => absurd n hc) (fun _ => kk)) (k2 hc)
theorem o_if {P : Int32 → Prop} {t nx : Nat}
    (hS : ∀ {p : Program} {e : Env} {R : Room} {s : State} {mi : MethodId} {args : Array Value} {below : List Frame} {meth : Method} {c0 : Code} {H : Heap} {locs : List Loc} {cells slots : Nat} {ls : Array Slot} {Qf : State → Prop} {x : Int32} {r : List Value}, p.tables.exec = Jvm.exec → c0.code = mB m →
      (P x → W p (gl G) e R s mi args below meth c0 H locs cells slots Qf (F0 mi t ls r)) → (¬ P x → W p (gl G) e R s mi args below meth c0 H locs cells slots Qf (F0 mi nx ls r)) → W p (gl G) e R s mi args below meth c0 H locs cells slots Qf (F0 mi pc ls (.int x :: r))) : SemOK G m pc (s_if P t nx) := by
  intro L st h Q k hs hk
  unfold s_if at hs
  split at hs
  · exact Go_.br (L1 := L) (L2 := L) (fun hx hb => hS hx hb) (fun c => hk _ _ _ _ (hs.1 c)) (fun c => hk _ _ _ _ (hs.2 c))
  · exact hs.elim
theorem o_icmp {P : Int32 → Int32 → Prop} {t nx : Nat}
    (hS : ∀ {p : Program} {e : Env} {R : Room} {s : State} {mi : MethodId} {args : Array Value} {below : List Frame} {meth : Method} {c0 : Code} {H : Heap} {locs : List Loc} {cells slots : Nat} {ls : Array Slot} {Qf : State → Prop} {x y : Int32} {r : List Value}, p.tables.exec = Jvm.exec → c0.code = mB m →
      (P x y → W p (gl G) e R s mi args below meth c0 H locs cells slots Qf (F0 mi t ls r)) → (¬ P x y → W p (gl G) e R s mi args below meth c0 H locs cells slots Qf (F0 mi nx ls r)) → W p (gl G) e R s mi args below meth c0 H locs cells slots Qf (F0 mi pc ls (.int y :: .int x :: r))) : SemOK G m pc (s_icmp P t nx) := by
  intro L st h Q k hs hk
  unfold s_icmp at hs
  split at hs
  · exact Go_.br (L1 := L) (L2 := L) (fun hx hb => hS hx hb) (fun c => hk _ _ _ _ (hs.1 c)) (fun c => hk _ _ _ _ (hs.2 c))
  · exact hs.elim
variable {off : Int} {t : Nat}
theorem o_ifeq (hd : decode (mB m) pc = .ok (.ifCond .eq off, 3)) (ht : (pc : Int) + off = (t : Int)) : SemOK G m pc (s_if (fun x => x = 0) t (pc + 3)) := o_if fun hx hb a b => lv_if_eq hx hb hd ht a b
theorem o_ifne (hd : decode (mB m) pc = .ok (.ifCond .ne off, 3)) (ht : (pc : Int) + off = (t : Int)) : SemOK G m pc (s_if (fun x => ¬ x = 0) t (pc + 3)) := o_if fun hx hb a b => lv_if_ne hx hb hd ht a (fun e => b (fun n => n e))
theorem o_iflt (hd : decode (mB m) pc = .ok (.ifCond .lt off, 3)) (ht : (pc : Int) + off = (t : Int)) : SemOK G m pc (s_if (fun x => x < 0) t (pc + 3)) := o_if fun hx hb a b => lv_if_lt hx hb hd ht a b
theorem o_ifge (hd : decode (mB m) pc = .ok (.ifCond .ge off, 3)) (ht : (pc : Int) + off = (t : Int)) : SemOK G m pc (s_if (fun x => 0 ≤ x) t (pc + 3)) := o_if fun hx hb a b => lv_if_ge hx hb hd ht a b
theorem o_ifgt (hd : decode (mB m) pc = .ok (.ifCond .gt off, 3)) (ht : (pc : Int) + off = (t : Int)) : SemOK G m pc (s_if (fun x => 0 < x) t (pc + 3)) := o_if fun hx hb a b => lv_if_gt hx hb hd ht a b
theorem o_ifle (hd : decode (mB m) pc = .ok (.ifCond .le off, 3)) (ht : (pc : Int) + off = (t : Int)) : SemOK G m pc (s_if (fun x => x ≤ 0) t (pc + 3)) := o_if fun hx hb a b => lv_if_le hx hb hd ht a b
theorem o_cmpeq (hd : decode (mB m) pc = .ok (.if_icmp .eq off, 3)) (ht : (pc : Int) + off = (t : Int)) : SemOK G m pc (s_icmp (fun x y => x = y) t (pc + 3)) := o_icmp fun hx hb a b => lv_icmp_eq hx hb hd ht a b
theorem o_cmpne (hd : decode (mB m) pc = .ok (.if_icmp .ne off, 3)) (ht : (pc : Int) + off = (t : Int)) : SemOK G m pc (s_icmp (fun x y => ¬ x = y) t (pc + 3)) := o_icmp fun hx hb a b => lv_icmp_ne hx hb hd ht a (fun e => b (fun n => n e))
theorem o_cmplt (hd : decode (mB m) pc = .ok (.if_icmp .lt off, 3)) (ht : (pc : Int) + off = (t : Int)) : SemOK G m pc (s_icmp (fun x y => x < y) t (pc + 3)) := o_icmp fun hx hb a b => lv_icmp_lt hx hb hd ht a b
theorem o_cmpge (hd : decode (mB m) pc = .ok (.if_icmp .ge off, 3)) (ht : (pc : Int) + off = (t : Int)) : SemOK G m pc (s_icmp (fun x y => y ≤ x) t (pc + 3)) := o_icmp fun hx hb a b => lv_icmp_ge hx hb hd ht a b
theorem o_cmpgt (hd : decode (mB m) pc = .ok (.if_icmp .gt off, 3)) (ht : (pc : Int) + off = (t : Int)) : SemOK G m pc (s_icmp (fun x y => y < x) t (pc + 3)) := o_icmp fun hx hb a b => lv_icmp_gt hx hb hd ht a b
theorem o_cmple (hd : decode (mB m) pc = .ok (.if_icmp .le off, 3)) (ht : (pc : Int) + off = (t : Int)) : SemOK G m pc (s_icmp (fun x y => x ≤ y) t (pc + 3)) := o_icmp fun hx hb a b => lv_icmp_le hx hb hd ht a b
theorem o_ifnull (hd : decode (mB m) pc = .ok (.ifnull off, 3)) (ht : (pc : Int) + off = (t : Int)) : SemOK G m pc (s_ifnull t (pc + 3)) := by
  intro L st h Q k hs hk
  unfold s_ifnull at hs
  split at hs
  · next v r =>
    cases v with
    | null => exact Go_.pure0 (fun cx _ _ kk => lv_ifnullN cx.ex cx.cb hd ht kk) (hk _ _ _ _ hs)
    | ref a => exact Go_.pure0 (fun cx _ _ kk => lv_ifnull cx.ex cx.cb hd kk) (hk _ _ _ _ hs)
    | _ => exact hs.elim
  · exact hs.elim
theorem o_ifnon (hd : decode (mB m) pc = .ok (.ifnonnull off, 3)) (ht : (pc : Int) + off = (t : Int)) : SemOK G m pc (s_ifnon t (pc + 3)) := by
  intro L st h Q k hs hk
  unfold s_ifnon at hs
  split at hs
  · next v r =>
    cases v with
    | null => exact Go_.pure0 (fun cx _ _ kk => lv_ifnonnullN cx.ex cx.cb hd kk) (hk _ _ _ _ hs)
    | ref a => exact Go_.pure0 (fun cx _ _ kk => lv_ifnonnull cx.ex cx.cb hd ht kk) (hk _ _ _ _ hs)
    | _ => exact hs.elim
  · exact hs.elim
theorem rf_inj {a b : Option Nat} : va_rf a = va_rf b ↔ a = b := by
  cases a <;> cases b <;> simp [va_rf]
theorem o_acmpeq (hd : decode (mB m) pc = .ok (.if_acmp .eq off, 3)) (ht : (pc : Int) + off = (t : Int)) : SemOK G m pc (s_acmp true t (pc + 3)) := by
  intro L st h Q k hs hk
  unfold s_acmp at hs
  split at hs
  · next w v r =>
    obtain ⟨⟨v, rfl⟩, hs⟩ := rvk_of hs
    obtain ⟨⟨w, rfl⟩, hs⟩ := rvk_of hs
    rw [rf_inj] at hs
    exact Go_.br (L1 := L) (L2 := L) (fun hx hb a b => lv_acmp_eq hx hb hd ht a b) (fun c => hk _ _ _ _ (hs.1 c)) (fun c => hk _ _ _ _ (hs.2 c))
  · exact hs.elim
theorem o_acmpne (hd : decode (mB m) pc = .ok (.if_acmp .ne off, 3)) (ht : (pc : Int) + off = (t : Int)) : SemOK G m pc (s_acmp false t (pc + 3)) := by
  intro L st h Q k hs hk
  unfold s_acmp at hs
  split at hs
  · next w v r =>
    obtain ⟨⟨v, rfl⟩, hs⟩ := rvk_of hs
    obtain ⟨⟨w, rfl⟩, hs⟩ := rvk_of hs
    rw [rf_inj] at hs
    exact Go_.br (L1 := L) (L2 := L) (c := v = w) (fun hx hb a b => lv_acmp_ne hx hb hd ht b a) (fun c => hk _ _ _ _ (hs.1 c)) (fun c => hk _ _ _ _ (hs.2 c))
  · exact hs.elim
end OK
