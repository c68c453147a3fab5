set_option maxRecDepth 100000
/-! what the class file of a lambda holds, and what its made class then has -/
def sgOf (c : Cond) : Lambda.Shape := match c with | .lambdaSite _ _ _ s => s | _ => default
/-- the method's code; the target's reference; its class entry -/
def LamF (σ : Lambda.Shape) (mi ci n nt : Nat) (code : Array UInt8) (maxl : Nat) : Prop :=
  ((σ.file "BranchNames").bind (fun cf => (layoutMethods cf).bind (fun ms => ms[1]?))).bind (fun m => m.code.map (fun c => (c.code.data, c.maxLocals, m.accessFlags, m.sig.returnType))) = some (code, maxl, 1, some FieldType.int) ∧
  (σ.file "BranchNames").bind (fun cf => some (cf.constantPool[mi]?, cf.constantPool.className? ci, cf.constantPool.nameAndType? nt, cf.constantPool[ci]?, cf.constantPool.string? n, cf.thisClass)) = some (some (.methodref ci nt), some "BranchNames", some (σ.implName, σ.implDesc.toString), some (.class_ n), some "BranchNames", 2) ∧ ci ≠ 2 ∧ σ.implClass = "BranchNames"
theorem lam_made {e : Setting} {vm : Vm} {d c : ClassId} {dk : Class} {σ : Lambda.Shape} {mi ci n nt maxl : Nat} {code : Array UInt8} (hF : LamF σ mi ci n nt code maxl) (hd : vm.classes[d]? = some dk) (hname : dk.name = "BranchNames") (h : Lambda.isMade e vm d σ c = true) :
    ∃ (k tk : Class) (file : ClassFile) (methk : Method) (ck : Code) (toy : ClassId) (t : MethodId),
      vm.classes[c]? = some k ∧ k.name = "BranchNames$$Lambda" ∧ k.cf = some file ∧ file.constantPool[mi]? = some (.methodref ci nt) ∧ file.constantPool.nameAndType? nt = some (σ.implName, σ.implDesc.toString) ∧
      vm.method? ⟨c, 1⟩ = some methk ∧ methk.code = some ck ∧ ck.code = ⟨code⟩ ∧ ck.maxLocals = maxl ∧ methk.locks = false ∧ methk.accessFlags = 0x0001 ∧ methk.sig.returnType = some .int ∧
      vm.findClass "BranchNames" = some toy ∧ vm.classes[toy]? = some tk ∧ ((methodIn toy σ.implName σ.implDesc.toString tk.isInterface none).ask e vm).1 = .ok t ∧
      vm.methodReady c mi t ∧ vm.classReady c ci toy := by
  obtain ⟨h1, h2, hci, himp⟩ := hF
  obtain ⟨dk', k, ok, tk, file, cf, object, iface, toy, lay, methods, target, found, hd', hk, hfile, hcf, -, -, -, -, hms, ht, htk, hg, -, hrec, -, -, -, -, hpool, hmeth, -, -, hres, -⟩ := Lambda.isMade_spec h
  cases hd.symm.trans hd'
  rw [hname] at hcf
  rw [hcf] at h1 h2
  simp only [Option.bind_some, hms] at h1
  simp only [Option.bind_some, Option.some.injEq, Prod.mk.injEq] at h2
  obtain ⟨e1, e2, e3, e4, e5, e6⟩ := h2
  rw [himp] at ht
  cases hm1 : methods[1]? with
  | none => rw [hm1] at h1; cases h1
  | some fw =>
    rw [hm1] at h1
    obtain ⟨b, hb, hsame⟩ := hmeth 1 fw hm1
    obtain ⟨-, -, hsig, hfl, x, y, hx, hy, -, hml, hco, -⟩ := Lambda.sameMethod_spec hsame
    simp only [Option.bind_some, hx, Option.map_some, Option.some.injEq, Prod.mk.injEq] at h1
    obtain ⟨c1, c2, c3, c4⟩ := h1
    refine ⟨k, tk, file, b, y, toy, target, hk, by rw [hrec.1, hname]; rfl, hfile, by rw [hpool.2.1]; exact e1, by rw [hpool.2.1]; exact e3, by simp [Vm.method?, hk, hb], hy, ?_, by rw [hml]; exact c2, ?_, by rw [hfl]; exact c3, by rw [hsig]; exact c4, ht, htk, hg,
      ⟨k, hk, hres mi _ (Lambda.resolvedOf_method e1 e2 ht htk e3 hg)⟩, ⟨k, hk, hres ci _ (Lambda.resolvedOf_class e4 (by rw [e6]; exact hci) e5 ht)⟩⟩
    · rw [hco]
      exact ByteArray.ext c1
    · simp [Method.locks, Method.isSynchronized, hfl, c3, hasFlag, Acc.synchronized]
