/-! CORE 1: a world as functions of address and slot, its picture in the heap, and V: the frame at a pc over such a world -/
set_option maxRecDepth 100000
/-- what lies at an address: nothing known; an object of the class of that number; an array (type, length); (10, i): the text of that number -/
abbrev gKd : Type := Option (Nat ⊕ (Nat × Nat))
/-- kinds; ints; references; longs; the heap's size -/
abbrev gM : Type := (Nat → gKd) × (Nat → Nat → Int32) × (Nat → Nat → Option Nat) × (Nat → Nat → Int64) × Nat
def kd (M : gM) : Nat → gKd := M.1
def iv (M : gM) : Nat → Nat → Int32 := M.2.1
def rv (M : gM) : Nat → Nat → Option Nat := M.2.2.1
def jv (M : gM) : Nat → Nat → Int64 := M.2.2.2.1
def sz (M : gM) : Nat := M.2.2.2.2
/-- the place of an index -/
def ix (i : Int32) : Nat := i.toNatClampNeg
def u2 {α : Type} (f : Nat → Nat → α) (a k : Nat) (v : α) : Nat → Nat → α := fun b j => if b = a ∧ j = k then v else f b j
def sI (M : gM) (a k : Nat) (v : Int32) : gM := (kd M, u2 (iv M) a k v, rv M, jv M, sz M)
def sR (M : gM) (a k : Nat) (v : Option Nat) : gM := (kd M, iv M, u2 (rv M) a k v, jv M, sz M)
def sJ (M : gM) (a k : Nat) (v : Int64) : gM := (kd M, iv M, rv M, u2 (jv M) a k v, sz M)
def sN (M : gM) (x : Nat ⊕ (Nat × Nat)) : gM := (fun b => if b = sz M then some x else kd M b, fun b j => if b = sz M then 0 else iv M b j, fun b j => if b = sz M then none else rv M b j, fun b j => if b = sz M then 0 else jv M b j, sz M + 1)
def sCI (M : gM) (a : Nat) (f : Nat → Int32) : gM := (kd M, fun b => if b = a then f else iv M b, rv M, jv M, sz M)
def sCR (M : gM) (a : Nat) (f : Nat → Option Nat) : gM := (kd M, iv M, fun b => if b = a then f else rv M b, jv M, sz M)
def sZ (M : gM) (n : Nat) : gM := (kd M, iv M, rv M, jv M, n)
/-- an array of that type lies there, and the index is within -/
def inA (M : gM) (a t : Nat) (i : Int32) : Prop := ∃ n, kd M a = some (.inr (t, n)) ∧ vp_in i n
/-- classes by their numbers (0, 16: no instances; 19: the exception that isWrong makes) -/
def gNoF : u_T := fun _ => ("", "", "", false)
def gCl : List vw_C := [(RX1, TX1, 16), (RX1, TX1, 16), (RX2, TX2, 11), (RX3, TX3, 24), (RX4, TX4, 2), (RX5, TX5, 3), (RX6, TX6, 3), (RX7, TX7, 7), (RX8, TX8, 7), (RX9, TX9, 5), (RX10, TX10, gN10), (RX11, TX11, 3), (RX12, TX12, 1), (RX13, TX13, 2), (RX14, TX14, 2), (RX15, TX15, 1), (RX1, TX1, 16), (RX17, TX17, 2), (RX18, TX18, 1), ("java/lang/IllegalArgumentException", gNoF, 0)]
/-- a field of that type holds a reference -/
def gIsR : FieldType → Bool
  | .object _ => true
  | .array _ => true
  | _ => false
/-- a field's type -/
def gFty (ci k : Nat) : FieldType := match ci with
  | 2 => tyX2 k
  | 3 => tyX3 k
  | 4 => tyX4 k
  | 5 => tyX5 k
  | 6 => tyX6 k
  | 7 => tyX7 k
  | 8 => tyX8 k
  | 9 => tyX9 k
  | 10 => tyX10 k
  | 11 => tyX11 k
  | 12 => tyX12 k
  | 13 => tyX13 k
  | 14 => tyX14 k
  | 15 => tyX15 k
  | 17 => tyX17 k
  | 18 => tyX18 k
  | _ => tyX1 k
/-- array types by their numbers -/
def gTy (t : Nat) : FieldType := match t with
  | 0 => .int
  | 1 => .byte
  | 2 => .long
  | 3 => .object "java/lang/String"
  | 4 => .object "GlacierMail$Line"
  | 5 => .object "GlacierMail$Section"
  | 6 => .object "GlacierMail$Flood"
  | 7 => .object "GlacierMail$Person"
  | 8 => .object "GlacierMail$Letter"
  | _ => .object "GlacierMail$State"
/-- the claim's constants: class numbers and field slots; array classes; the first address that is ours; the texts' addresses -/
abbrev gG : Type := va_G × (Nat → ClassId) × Nat × (Nat → Nat) × (Nat → Nat)
abbrev gGD (G : gG) : va_G := G.1
abbrev gGA (G : gG) : Nat → ClassId := G.2.1
abbrev gN0 (G : gG) : Nat := G.2.2.1
abbrev gSt (G : gG) : Nat → Nat := G.2.2.2.1
abbrev gSv (G : gG) : Nat → Nat := G.2.2.2.2
/-- which addresses are ours -/
abbrev gF (G : gG) : Nat → Prop := fun q => gN0 G ≤ q
def fv (M : gM) (ci a k : Nat) : Value := if gIsR (gFty ci k) then va_rf (rv M a k) else .int (iv M a k)
/-- the contents of an array -/
def gAc (M : gM) (a t n : Nat) : vp_A := (n, match t with
  | 0 => .inl (iv M a)
  | 1 => .inl (iv M a)
  | 2 => .inr (.inl (jv M a))
  | _ => .inr (.inr (.inr (.inr (rv M a)))))
def gAt (G : gG) (M : gM) (a : Nat) (H : Heap) : Prop := match kd M a with
  | none => True
  | some (.inl ci) => gN0 G ≤ a ∧ ∃ r, gCl[ci]? = some r ∧ t_OB a ((gGD G).1 ci) r.2.2 ((gGD G).2 ci) H (fv M ci a)
  | some (.inr (t, n)) => if t = 10 then a = gSt G n ∧ n < gSN else gN0 G ≤ a ∧ t < 10 ∧ H[a]? = some (vp_cell (gGA G t) (gAc M a t n))
/-- the heap shows the world -/
def Rp (G : gG) (M : gM) (H : Heap) : Prop := H.size = sz M ∧ gN0 G ≤ sz M ∧ (∀ a, gAt G M a H) ∧ ∀ i, i < gSN → gSt G i < gN0 G ∧ kd M (gSt G i) = some (.inr (10, i))
/-- what the tables say, all through a run -/
def KK (G : gG) (U : State) : Prop :=
  (∀ (c : Nat) (q : vw_C), gCl[c]? = some q → u_Kn U q.1 q.2.1 q.2.2 ((gGD G).1 c) ((gGD G).2 c)) ∧
  (∀ t : Nat, t < 10 → ArrOfT U (gGA G t) (gTy t) ∧ va_RA U (gGA G t) (gTy t)) ∧
  (∀ q ∈ gNF, va_Nw (.fieldLinkNest q.1 q.2.1 q.2.2.1 q.2.2.2.1 q.2.2.2.2.1 q.2.2.2.2.2) U) ∧
  (∀ q ∈ gNM, va_Nw (.methodLinkNest q.1 q.2.1 q.2.2.1 q.2.2.2) U) ∧
  (∀ t : Nat, 3 ≤ t → t < 10 → va_AO (match gTy t with | .object C => C | _ => "") U) ∧
  (∀ q ∈ gCa, va_Nw (.castable q.1 q.2) U) ∧
  (∀ q ∈ gNc, va_Nc q.1 q.2 U) ∧
  (∀ q ∈ gIf, va_Fw q.1 q.2.1 q.2.2 U) ∧
  (∀ q ∈ gSr, vk_R q.1 q.2.1 q.2.2.1 (gSt G q.2.2.2) U) ∧
  (vk_S gSN gSl gSb (gSt G) (gSv G) (gF G) U U.heap) ∧
  (vx_Zq Bundle.tN "UNASSIGNED_STACK" Bundle.steD (gF G) U U.heap) ∧
  (vx_Zq Bundle.tN "SUPPRESSED_SENTINEL" Bundle.listD (gF G) U U.heap) ∧
  (va_Z "java/lang/String" "COMPACT_STRINGS" "Z" (.int 1) (gF G) U U.heap) ∧ gN0 G ≤ U.heap.size ∧ (∀ y ∈ gDe, va_Nw (.declares y) U) ∧ va_Zq "jdk/internal/util/Preconditions" "SIOOBE_FORMATTER" "Ljava/util/function/BiFunction;" (gF G) U U.heap
theorem KK.at {G : gG} {s U : State} {H : Heap} {locs : List Loc} (h : KK G s) (hS : va_S (gF G) s.heap H locs) (hU : U.heap = H) (hW : s.WarmedH U.vm) : KK G U := by
  obtain ⟨h1, h2, h3, h4, h5, h6, h7, h8, h9, h10, h11, h12, h13, h14, h15, h16⟩ := h
  subst hU
  refine ⟨fun c q hq => u_Kn_moved hW.alike (h1 c q hq), fun t ht => ⟨arrOfT_moved hW.alike (h2 t ht).1, (h2 t ht).2.moved hW.alike⟩, fun q hq => va_Nw.warmF hW (h3 q hq), fun q hq => va_Nw.warmM hW (h4 q hq), fun t a b => va_AO.moved hW.alike (h5 t a b), fun q hq => va_Nw.warmC hW (h6 q hq), fun q hq => (h7 q hq).moved hW.alike, fun q hq => va_Fw.moved ?_ hW.alike (h8 q hq), fun q hq => vk_R.warm hW (h9 q hq), vk_S.moved hW.alike (h10.kept hS.2.1), vx_Zq.moved hW.alike (h11.kept hS.2.1), vx_Zq.moved hW.alike (h12.kept hS.2.1), va_Z.moved hW.alike (h13.kept hS.2.1), Nat.le_trans h14 hS.1, fun y hy => va_Nw.warmD hW (h15 y hy), va_Zq.moved hW.alike (h16.kept hS.2.1)⟩
  exact gIf_ok q hq
theorem KK.blind {G : gG} {U : State} {g : JFrame} {mk : MethodId} {a : Array Value} (h : KK G U) : KK G (U.calling g mk a) := by
  refine KK.at (s := U) (H := U.heap) (locs := []) h va_S.rf rfl (State.WarmedH.refl U)
/-- all that a body's walk has, but launch and constants: program, environment, room, start, method, arguments, frames below, method, code, goal, locals -/
abbrev gX : Type := Program × Env × Room × State × MethodId × Array Value × List Frame × Method × Code × (State → Prop) × Nat
/-- the machine, at this pc over this world with these locals and this stack, comes to its goal; bc, bs: cells and slots that may still be made -/
def V (l : Launch) (G : gG) (X : gX) (bc bs : Nat) (M : gM) (pc : Nat) (lv : List (Nat × Value)) (st : List Value) : Prop := match X with
  | (p, e, R, s, m, args, below, meth, c, Q, nL) => bc ≤ R.cells → bs ≤ R.slots → ∀ (H : Heap) (locs : List Loc) (la : Array Slot), Rp G M H → va_S (gF G) s.heap H locs → lv_has la nL lv → W p l e R s m args below meth c H locs (R.cells - bc) (R.slots - bs) Q (F0 m pc la st)
/-- .. with q, of the class E, thrown over it -/
def VX (l : Launch) (G : gG) (X : gX) (bc bs : Nat) (M : gM) (pc : Nat) (lv : List (Nat × Value)) (q : Addr) (E : String) : Prop := match X with
  | (p, e, R, s, m, args, below, meth, c, Q, nL) => bc ≤ R.cells → bs ≤ R.slots → ∀ (H : Heap) (locs : List Loc) (la : Array Slot) (rest : List Value) (ce : Cell), Rp G M H → va_S (gF G) s.heap H locs → lv_has la nL lv → H[q]? = some ce → ce.vm = .none → s.vm.findClass E = some ce.cls → vx_W p l e R s m args below meth c H locs (R.cells - bc) (R.slots - bs) Q (F0 m pc la rest) q
def hX (l : Launch) (G : gG) (X : gX) (cc : ByteArray) (nL : Nat) (own : String) (F L : Nat) : Prop := match X with
  | (p, _, R, s, m, args, _, meth, c, _, n) => p.tables.exec = Jvm.exec ∧ c.code = cc ∧ c.maxLocals = nL ∧ n = nL ∧ s.vm.findClass own = some m.cls ∧ (∀ w ∈ lw_all, w.before args s = true) ∧ KK G s ∧ meth.locks = false ∧ F ≤ R.frames ∧ L ≤ R.locals ∧ l.stackTraces = false
/-- the method's end: an answer with K, or a throw with KX -/
def gQ (G : gG) (K : Option Value → gM → Prop) : Array Value → State → Outcome → State → Prop := fun _ st o t => ∃ v M', o = .returned v ∧ K v M' ∧ Rp G M' t.heap ∧ va_F (gF G) st t
def gE (G : gG) (KX : Addr → String → gM → Prop) : Addr → String → State → State → Prop := fun q E st t => ∃ M', KX q E M' ∧ Rp G M' t.heap ∧ va_F (gF G) st t
def hQ (G : gG) (X : gX) (ret : Option FieldType) (tb : List (Nat × Nat × Nat × Nat)) (ini : String) (K : Option Value → gM → Prop) (KX : Addr → String → gM → Prop) : Prop := match X with
  | (_, _, R, s, _, args, below, meth, c, Q, _) => Q = vx_MQ below (gQ G K) (gE G KX) args s R.cells R.slots (gF G) ∧ meth.sig.returnType = ret ∧ c.exceptionTable.toList = tableOf tb ∧ meth.name = ini
/-- what a call of the method asks of the world -/
def gP (G : gG) (M : gM) (vs : List Value) : Array Value → State → Prop := va_Pc vs (fun U => Rp G M U.heap ∧ KK G U)
theorem gP.blind {G : gG} {M : gM} {vs : List Value} : FrameBlind (gP G M vs) := fun _ _ _ _ h => ⟨h.1, h.2.1, h.2.2.blind⟩
theorem gP.at {G : gG} {M : gM} {vs : List Value} {s : State} {H : Heap} {locs : List Loc} (hR : Rp G M H) (hS : va_S (gF G) s.heap H locs) (hK : KK G s) : ∀ U : State, U.heap = H → s.WarmedH U.vm → gP G M vs vs.toArray U := fun _ hU hW => ⟨rfl, by rw [hU]; exact hR, hK.at hS hU hW⟩
/-- a contract of any of our methods -/
def gMet (l : Launch) (G : gG) (y : MethodName) (ws : List Cond) (rm : Room) (M : gM) (vs : List Value) (K : Option Value → gM → Prop) (KX : Addr → String → gM → Prop) : Prop :=
  vx_Met l y ws rm (gP G M vs) (gQ G K) (gE G KX) rm.cells rm.slots (gF G)
theorem gm_of {l : Launch} (hl : l.stackTraces = false) {G : gG} {M : gM} {y : MethodName} {cc : ByteArray} {maxL : Nat} {ret : Option FieldType} {rm : Room} {vs : List Value} {K : Option Value → gM → Prop} {KX : Addr → String → gM → Prop}
    (hy : plainName y.cls = true) (hpar : (lg_sl vs).length ≤ maxL)
    (body : ∀ X : gX, hX l G X cc maxL y.cls rm.frames rm.locals → hQ G X ret [] y.name K KX → V l G X rm.cells rm.slots M 0 (lv_args 0 vs) []) : gMet l G y (ws_ y cc maxL ret) rm M vs K KX := by
  refine vx_ofW (cc := cc) (maxL := maxL) (ret := ret) hy rfl ?_
  intro p e s m args below meth c s₁ B hml htab hv
  obtain ⟨rfl, hR, hK⟩ := hv
  have hts := atoms_spec (ws := ws_ y cc maxL ret) B.pre
  have hts : ∀ w ∈ lw_all, w.before _ s = true := fun w h => hts w (List.mem_cons_of_mem _ h)
  have ht0 : c.exceptionTable.toList = tableOf [] := by
    cases hc : c.exceptionTable.toList with
    | nil => rfl
    | cons a b => exact absurd (htab a (by rw [hc]; exact List.mem_cons_self)) id
  have hX0 := body (p, e, (headSpec (ws_ y cc maxL ret) rm).room, s, m, vs.toArray, below, meth, c, vx_MQ below (gQ G K) (gE G KX) vs.toArray s rm.cells rm.slots (gF G), maxL)
    ⟨B.exec, B.bytes, hml, rfl, findClass_of_methodNamed B.named, hts, hK, B.notSynchronized, Nat.le_refl _, Nat.le_refl _, hl⟩ ⟨rfl, B.returns, ht0, (name_of_methodNamed B.named B.method).1⟩
  have hl0 := lv_entry vs (n := maxL) hpar
  rw [lg_entry_eq]
  have h9 := hX0 (Nat.le_refl _) (Nat.le_refl _) s.heap [] _ hR va_S.rf hl0
  exact W.widen (Nat.zero_le _) (Nat.zero_le _) h9
theorem gm_ofH {l : Launch} (hl : l.stackTraces = false) {G : gG} {M : gM} {y : MethodName} {cc : ByteArray} {maxL : Nat} {ret : Option FieldType} {hh : List (Nat × Nat × Nat × Nat)} {rm : Room} {vs : List Value} {K : Option Value → gM → Prop} {KX : Addr → String → gM → Prop}
    (hy : plainName y.cls = true) (hpar : (lg_sl vs).length ≤ maxL)
    (body : ∀ X : gX, hX l G X cc maxL y.cls rm.frames rm.locals → hQ G X ret hh y.name K KX → V l G X rm.cells rm.slots M 0 (lv_args 0 vs) []) : gMet l G y (wsW_ y cc maxL ret hh) rm M vs K KX := by
  refine vx_ofWH (cc := cc) (maxL := maxL) (ret := ret) (hh := hh) hy rfl ?_
  intro p e s m args below meth c s₁ B hml hv
  obtain ⟨rfl, hR, hK⟩ := hv
  have hts0 := atoms_spec (ws := wsW_ y cc maxL ret hh) B.pre
  have hts : ∀ w ∈ lw_all, w.before _ s = true := fun w h => hts0 w (List.mem_cons_of_mem _ h)
  have ht0 : c.exceptionTable.toList = tableOf hh := vx_table (x := y) B (hts0 _ List.mem_cons_self)
  have hX0 := body (p, e, (headSpec (wsW_ y cc maxL ret hh) rm).room, s, m, vs.toArray, below, meth, c, vx_MQ below (gQ G K) (gE G KX) vs.toArray s rm.cells rm.slots (gF G), maxL)
    ⟨B.exec, B.bytes, hml, rfl, findClass_of_methodNamed B.named, hts, hK, B.notSynchronized, Nat.le_refl _, Nat.le_refl _, hl⟩ ⟨rfl, B.returns, ht0, (name_of_methodNamed B.named B.method).1⟩
  have hl0 := lv_entry vs (n := maxL) hpar
  rw [lg_entry_eq]
  have h9 := hX0 (Nat.le_refl _) (Nat.le_refl _) s.heap [] _ hR va_S.rf hl0
  exact W.widen (Nat.zero_le _) (Nat.zero_le _) h9
section SUBV
variable {l : Launch} {G : gG} {X : gX} {bc bs : Nat} {M : gM} {pc : Nat} {lv lv' : List (Nat × Value)} {st : List Value}
/-- fewer locals known -/
theorem V.sub (ks : List Nat) (h : lv_pick lv ks = lv') (k : V l G X bc bs M pc lv' st) : V l G X bc bs M pc lv st := by
  obtain ⟨p, e, R, s, m, args, below, meth, c, Q, nL⟩ := X
  exact fun h1 h2 H locs la hR hS hL => k h1 h2 H locs la hR hS (lv_sub hL ks h)
/-- less room -/
theorem V.less {bc' bs' : Nat} (h1 : bc' ≤ bc) (h2 : bs' ≤ bs) (k : V l G X bc' bs' M pc lv st) : V l G X bc bs M pc lv st := by
  obtain ⟨p, e, R, s, m, args, below, meth, c, Q, nL⟩ := X
  exact fun g1 g2 H locs la hR hS hL => W.widen (Nat.sub_le_sub_left h1 _) (Nat.sub_le_sub_left h2 _) (k (Nat.le_trans h1 g1) (Nat.le_trans h2 g2) H locs la hR hS hL)
theorem V.eqs {st' : List Value} (h : st = st') (k : V l G X bc bs M pc lv st') : V l G X bc bs M pc lv st := h ▸ k
end SUBV
theorem ite_t {c A B : Prop} [Decidable c] (h : c) (q : if c then A else B) : A := by rw [if_pos h] at q; exact q
theorem ite_f {c A B : Prop} [Decidable c] (h : ¬ c) (q : if c then A else B) : B := by rw [if_neg h] at q; exact q
/-- the answers' shapes -/
def kI (K : Int32 → gM → Prop) : Option Value → gM → Prop := fun v M => ∃ x, v = some (.int x) ∧ K x M
def kA (K : Nat → gM → Prop) : Option Value → gM → Prop := fun v M => ∃ x, v = some (.ref x) ∧ K x M
def kV (K : gM → Prop) : Option Value → gM → Prop := fun v M => v = none ∧ K M
def kN : Addr → String → gM → Prop := fun _ _ _ => False
