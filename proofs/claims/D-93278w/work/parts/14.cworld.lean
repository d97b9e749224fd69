set_option maxRecDepth 100000
/-! THE COMPONENT's WORLD. vI, vJ: NeverSaid's int and long fields; vA: its int and byte arrays; vF: carried; vS: a State's int fields; vSA: its int arrays; vSp, vTx: its speakers, texts; vD: its deeds' fields; vSh: sheets; vHe: what slots hold; vFl: the fault's fields; vM: all other cells -/
abbrev CV : Type := (Nat → Int32) × (Nat → Int64) × (Nat → Nat → Int32) × (Nat → UInt32) × (Nat → Nat → Int32) × (Nat → Nat → Nat → Int32) × (Nat → Nat → Option Nat) × (Nat → Nat → Option Nat) × (Nat → Nat → Nat → Int32) × (Nat → Option Nat) × (Nat → Option Nat) × List Value × HM
def vI (V : CV) : Nat → Int32 := V.1
def vJ (V : CV) : Nat → Int64 := V.2.1
def vA (V : CV) : Nat → Nat → Int32 := V.2.2.1
def vF (V : CV) : Nat → UInt32 := V.2.2.2.1
def vS (V : CV) : Nat → Nat → Int32 := V.2.2.2.2.1
def vSA (V : CV) : Nat → Nat → Nat → Int32 := V.2.2.2.2.2.1
def vSp (V : CV) : Nat → Nat → Option Nat := V.2.2.2.2.2.2.1
def vTx (V : CV) : Nat → Nat → Option Nat := V.2.2.2.2.2.2.2.1
def vD (V : CV) : Nat → Nat → Nat → Int32 := V.2.2.2.2.2.2.2.2.1
def vSh (V : CV) : Nat → Option Nat := V.2.2.2.2.2.2.2.2.2.1
def vHe (V : CV) : Nat → Option Nat := V.2.2.2.2.2.2.2.2.2.2.1
def vFl (V : CV) : List Value := V.2.2.2.2.2.2.2.2.2.2.2.1
def vM (V : CV) : HM := V.2.2.2.2.2.2.2.2.2.2.2.2
def sI (V : CV) (k : Nat) (v : Int32) : CV := (fun k' => if k' = k then v else vI V k', V.2)
def sJ (V : CV) (k : Nat) (v : Int64) : CV := (V.1, fun k' => if k' = k then v else vJ V k', V.2.2)
def sA (V : CV) (k j : Nat) (v : Int32) : CV := (V.1, V.2.1, fun k' j' => if k' = k ∧ j' = j then v else vA V k' j', V.2.2.2)
def sAA (V : CV) (k : Nat) (f : Nat → Int32) : CV := (V.1, V.2.1, fun k' j' => if k' = k then f j' else vA V k' j', V.2.2.2)
def sF (V : CV) (j : Nat) (v : UInt32) : CV := (V.1, V.2.1, V.2.2.1, fun j' => if j' = j then v else vF V j', V.2.2.2.2)
def sS (V : CV) (i k : Nat) (v : Int32) : CV := (V.1, V.2.1, V.2.2.1, V.2.2.2.1, fun i' k' => if i' = i ∧ k' = k then v else vS V i' k', V.2.2.2.2.2)
def sSA (V : CV) (i k j : Nat) (v : Int32) : CV := (V.1, V.2.1, V.2.2.1, V.2.2.2.1, V.2.2.2.2.1, fun i' k' j' => if i' = i ∧ k' = k ∧ j' = j then v else vSA V i' k' j', V.2.2.2.2.2.2)
def sSAA (V : CV) (i k : Nat) (f : Nat → Int32) : CV := (V.1, V.2.1, V.2.2.1, V.2.2.2.1, V.2.2.2.2.1, fun i' k' j' => if i' = i ∧ k' = k then f j' else vSA V i' k' j', V.2.2.2.2.2.2)
def sSp (V : CV) (i j : Nat) (r : Option Nat) : CV := (V.1, V.2.1, V.2.2.1, V.2.2.2.1, V.2.2.2.2.1, V.2.2.2.2.2.1, fun i' j' => if i' = i ∧ j' = j then r else vSp V i' j', V.2.2.2.2.2.2.2)
def sTx (V : CV) (i j : Nat) (r : Option Nat) : CV := (V.1, V.2.1, V.2.2.1, V.2.2.2.1, V.2.2.2.2.1, V.2.2.2.2.2.1, V.2.2.2.2.2.2.1, fun i' j' => if i' = i ∧ j' = j then r else vTx V i' j', V.2.2.2.2.2.2.2.2)
def sTxA (V : CV) (i : Nat) (f : Nat → Option Nat) : CV := (V.1, V.2.1, V.2.2.1, V.2.2.2.1, V.2.2.2.2.1, V.2.2.2.2.2.1, V.2.2.2.2.2.2.1, fun i' j' => if i' = i then f j' else vTx V i' j', V.2.2.2.2.2.2.2.2)
def sD (V : CV) (i d k : Nat) (v : Int32) : CV := (V.1, V.2.1, V.2.2.1, V.2.2.2.1, V.2.2.2.2.1, V.2.2.2.2.2.1, V.2.2.2.2.2.2.1, V.2.2.2.2.2.2.2.1, fun i' d' k' => if i' = i ∧ d' = d ∧ k' = k then v else vD V i' d' k', V.2.2.2.2.2.2.2.2.2)
def sHe (V : CV) (q : Nat) (r : Option Nat) : CV := (V.1, V.2.1, V.2.2.1, V.2.2.2.1, V.2.2.2.2.1, V.2.2.2.2.2.1, V.2.2.2.2.2.2.1, V.2.2.2.2.2.2.2.1, V.2.2.2.2.2.2.2.2.1, V.2.2.2.2.2.2.2.2.2.1, fun q' => if q' = q then r else vHe V q', V.2.2.2.2.2.2.2.2.2.2.2)
def sFl (V : CV) (fs : List Value) : CV := (V.1, V.2.1, V.2.2.1, V.2.2.2.1, V.2.2.2.2.1, V.2.2.2.2.2.1, V.2.2.2.2.2.2.1, V.2.2.2.2.2.2.2.1, V.2.2.2.2.2.2.2.2.1, V.2.2.2.2.2.2.2.2.2.1, V.2.2.2.2.2.2.2.2.2.2.1, fs, V.2.2.2.2.2.2.2.2.2.2.2.2)
def sM (V : CV) (M : HM) : CV := (V.1, V.2.1, V.2.2.1, V.2.2.2.1, V.2.2.2.2.1, V.2.2.2.2.2.1, V.2.2.2.2.2.2.1, V.2.2.2.2.2.2.2.1, V.2.2.2.2.2.2.2.2.1, V.2.2.2.2.2.2.2.2.2.1, V.2.2.2.2.2.2.2.2.2.2.1, V.2.2.2.2.2.2.2.2.2.2.2.1, M)
/-- what stands where, behind a store -/
theorem cvs : (∀ (V : CV) (k : Nat) (v : Int32) (k' : Nat), vI (sI V k v) k' = if k' = k then v else vI V k') ∧ (∀ (V : CV) (k : Nat) (v : Int32), vJ (sI V k v) = vJ V) ∧ (∀ (V : CV) (k : Nat) (v : Int32), vA (sI V k v) = vA V) ∧ (∀ (V : CV) (k : Nat) (v : Int32), vF (sI V k v) = vF V) ∧ (∀ (V : CV) (k : Nat) (v : Int32), vS (sI V k v) = vS V) ∧ (∀ (V : CV) (k : Nat) (v : Int32), vSA (sI V k v) = vSA V) ∧ (∀ (V : CV) (k : Nat) (v : Int32), vSp (sI V k v) = vSp V) ∧ (∀ (V : CV) (k : Nat) (v : Int32), vTx (sI V k v) = vTx V) ∧ (∀ (V : CV) (k : Nat) (v : Int32), vD (sI V k v) = vD V) ∧ (∀ (V : CV) (k : Nat) (v : Int32), vSh (sI V k v) = vSh V) ∧ (∀ (V : CV) (k : Nat) (v : Int32), vHe (sI V k v) = vHe V) ∧ (∀ (V : CV) (k : Nat) (v : Int32), vFl (sI V k v) = vFl V) ∧ (∀ (V : CV) (k : Nat) (v : Int32), vM (sI V k v) = vM V) ∧ (∀ (V : CV) (k : Nat) (v : Int64), vI (sJ V k v) = vI V) ∧ (∀ (V : CV) (k : Nat) (v : Int64) (k' : Nat), vJ (sJ V k v) k' = if k' = k then v else vJ V k') ∧ (∀ (V : CV) (k : Nat) (v : Int64), vA (sJ V k v) = vA V) ∧ (∀ (V : CV) (k : Nat) (v : Int64), vF (sJ V k v) = vF V) ∧ (∀ (V : CV) (k : Nat) (v : Int64), vS (sJ V k v) = vS V) ∧ (∀ (V : CV) (k : Nat) (v : Int64), vSA (sJ V k v) = vSA V) ∧ (∀ (V : CV) (k : Nat) (v : Int64), vSp (sJ V k v) = vSp V) ∧ (∀ (V : CV) (k : Nat) (v : Int64), vTx (sJ V k v) = vTx V) ∧ (∀ (V : CV) (k : Nat) (v : Int64), vD (sJ V k v) = vD V) ∧ (∀ (V : CV) (k : Nat) (v : Int64), vSh (sJ V k v) = vSh V) ∧ (∀ (V : CV) (k : Nat) (v : Int64), vHe (sJ V k v) = vHe V) ∧ (∀ (V : CV) (k : Nat) (v : Int64), vFl (sJ V k v) = vFl V) ∧ (∀ (V : CV) (k : Nat) (v : Int64), vM (sJ V k v) = vM V) ∧ (∀ (V : CV) (k j : Nat) (v : Int32), vI (sA V k j v) = vI V) ∧ (∀ (V : CV) (k j : Nat) (v : Int32), vJ (sA V k j v) = vJ V) ∧ (∀ (V : CV) (k j : Nat) (v : Int32) (k' j' : Nat), vA (sA V k j v) k' j' = if k' = k ∧ j' = j then v else vA V k' j') ∧ (∀ (V : CV) (k j : Nat) (v : Int32), vF (sA V k j v) = vF V) ∧ (∀ (V : CV) (k j : Nat) (v : Int32), vS (sA V k j v) = vS V) ∧ (∀ (V : CV) (k j : Nat) (v : Int32), vSA (sA V k j v) = vSA V) ∧ (∀ (V : CV) (k j : Nat) (v : Int32), vSp (sA V k j v) = vSp V) ∧ (∀ (V : CV) (k j : Nat) (v : Int32), vTx (sA V k j v) = vTx V) ∧ (∀ (V : CV) (k j : Nat) (v : Int32), vD (sA V k j v) = vD V) ∧ (∀ (V : CV) (k j : Nat) (v : Int32), vSh (sA V k j v) = vSh V) ∧ (∀ (V : CV) (k j : Nat) (v : Int32), vHe (sA V k j v) = vHe V) ∧ (∀ (V : CV) (k j : Nat) (v : Int32), vFl (sA V k j v) = vFl V) ∧ (∀ (V : CV) (k j : Nat) (v : Int32), vM (sA V k j v) = vM V) ∧ (∀ (V : CV) (k : Nat) (f : Nat → Int32), vI (sAA V k f) = vI V) ∧ (∀ (V : CV) (k : Nat) (f : Nat → Int32), vJ (sAA V k f) = vJ V) ∧ (∀ (V : CV) (k : Nat) (f : Nat → Int32) (k' j' : Nat), vA (sAA V k f) k' j' = if k' = k then f j' else vA V k' j') ∧ (∀ (V : CV) (k : Nat) (f : Nat → Int32), vF (sAA V k f) = vF V) ∧ (∀ (V : CV) (k : Nat) (f : Nat → Int32), vS (sAA V k f) = vS V) ∧ (∀ (V : CV) (k : Nat) (f : Nat → Int32), vSA (sAA V k f) = vSA V) ∧ (∀ (V : CV) (k : Nat) (f : Nat → Int32), vSp (sAA V k f) = vSp V) ∧ (∀ (V : CV) (k : Nat) (f : Nat → Int32), vTx (sAA V k f) = vTx V) ∧ (∀ (V : CV) (k : Nat) (f : Nat → Int32), vD (sAA V k f) = vD V) ∧ (∀ (V : CV) (k : Nat) (f : Nat → Int32), vSh (sAA V k f) = vSh V) ∧ (∀ (V : CV) (k : Nat) (f : Nat → Int32), vHe (sAA V k f) = vHe V) ∧ (∀ (V : CV) (k : Nat) (f : Nat → Int32), vFl (sAA V k f) = vFl V) ∧ (∀ (V : CV) (k : Nat) (f : Nat → Int32), vM (sAA V k f) = vM V) ∧ (∀ (V : CV) (j : Nat) (v : UInt32), vI (sF V j v) = vI V) ∧ (∀ (V : CV) (j : Nat) (v : UInt32), vJ (sF V j v) = vJ V) ∧ (∀ (V : CV) (j : Nat) (v : UInt32), vA (sF V j v) = vA V) ∧ (∀ (V : CV) (j : Nat) (v : UInt32) (j' : Nat), vF (sF V j v) j' = if j' = j then v else vF V j') ∧ (∀ (V : CV) (j : Nat) (v : UInt32), vS (sF V j v) = vS V) ∧ (∀ (V : CV) (j : Nat) (v : UInt32), vSA (sF V j v) = vSA V) ∧ (∀ (V : CV) (j : Nat) (v : UInt32), vSp (sF V j v) = vSp V) ∧ (∀ (V : CV) (j : Nat) (v : UInt32), vTx (sF V j v) = vTx V) ∧ (∀ (V : CV) (j : Nat) (v : UInt32), vD (sF V j v) = vD V) ∧ (∀ (V : CV) (j : Nat) (v : UInt32), vSh (sF V j v) = vSh V) ∧ (∀ (V : CV) (j : Nat) (v : UInt32), vHe (sF V j v) = vHe V) ∧ (∀ (V : CV) (j : Nat) (v : UInt32), vFl (sF V j v) = vFl V) ∧ (∀ (V : CV) (j : Nat) (v : UInt32), vM (sF V j v) = vM V) ∧ (∀ (V : CV) (i k : Nat) (v : Int32), vI (sS V i k v) = vI V) ∧ (∀ (V : CV) (i k : Nat) (v : Int32), vJ (sS V i k v) = vJ V) ∧ (∀ (V : CV) (i k : Nat) (v : Int32), vA (sS V i k v) = vA V) ∧ (∀ (V : CV) (i k : Nat) (v : Int32), vF (sS V i k v) = vF V) ∧ (∀ (V : CV) (i k : Nat) (v : Int32) (i' k' : Nat), vS (sS V i k v) i' k' = if i' = i ∧ k' = k then v else vS V i' k') ∧ (∀ (V : CV) (i k : Nat) (v : Int32), vSA (sS V i k v) = vSA V) ∧ (∀ (V : CV) (i k : Nat) (v : Int32), vSp (sS V i k v) = vSp V) ∧ (∀ (V : CV) (i k : Nat) (v : Int32), vTx (sS V i k v) = vTx V) ∧ (∀ (V : CV) (i k : Nat) (v : Int32), vD (sS V i k v) = vD V) ∧ (∀ (V : CV) (i k : Nat) (v : Int32), vSh (sS V i k v) = vSh V) ∧ (∀ (V : CV) (i k : Nat) (v : Int32), vHe (sS V i k v) = vHe V) ∧ (∀ (V : CV) (i k : Nat) (v : Int32), vFl (sS V i k v) = vFl V) ∧ (∀ (V : CV) (i k : Nat) (v : Int32), vM (sS V i k v) = vM V) ∧ (∀ (V : CV) (i k j : Nat) (v : Int32), vI (sSA V i k j v) = vI V) ∧ (∀ (V : CV) (i k j : Nat) (v : Int32), vJ (sSA V i k j v) = vJ V) ∧ (∀ (V : CV) (i k j : Nat) (v : Int32), vA (sSA V i k j v) = vA V) ∧ (∀ (V : CV) (i k j : Nat) (v : Int32), vF (sSA V i k j v) = vF V) ∧ (∀ (V : CV) (i k j : Nat) (v : Int32), vS (sSA V i k j v) = vS V) ∧ (∀ (V : CV) (i k j : Nat) (v : Int32) (i' k' j' : Nat), vSA (sSA V i k j v) i' k' j' = if i' = i ∧ k' = k ∧ j' = j then v else vSA V i' k' j') ∧ (∀ (V : CV) (i k j : Nat) (v : Int32), vSp (sSA V i k j v) = vSp V) ∧ (∀ (V : CV) (i k j : Nat) (v : Int32), vTx (sSA V i k j v) = vTx V) ∧ (∀ (V : CV) (i k j : Nat) (v : Int32), vD (sSA V i k j v) = vD V) ∧ (∀ (V : CV) (i k j : Nat) (v : Int32), vSh (sSA V i k j v) = vSh V) ∧ (∀ (V : CV) (i k j : Nat) (v : Int32), vHe (sSA V i k j v) = vHe V) ∧ (∀ (V : CV) (i k j : Nat) (v : Int32), vFl (sSA V i k j v) = vFl V) ∧ (∀ (V : CV) (i k j : Nat) (v : Int32), vM (sSA V i k j v) = vM V) ∧ (∀ (V : CV) (i k : Nat) (f : Nat → Int32), vI (sSAA V i k f) = vI V) ∧ (∀ (V : CV) (i k : Nat) (f : Nat → Int32), vJ (sSAA V i k f) = vJ V) ∧ (∀ (V : CV) (i k : Nat) (f : Nat → Int32), vA (sSAA V i k f) = vA V) ∧ (∀ (V : CV) (i k : Nat) (f : Nat → Int32), vF (sSAA V i k f) = vF V) ∧ (∀ (V : CV) (i k : Nat) (f : Nat → Int32), vS (sSAA V i k f) = vS V) ∧ (∀ (V : CV) (i k : Nat) (f : Nat → Int32) (i' k' j' : Nat), vSA (sSAA V i k f) i' k' j' = if i' = i ∧ k' = k then f j' else vSA V i' k' j') ∧ (∀ (V : CV) (i k : Nat) (f : Nat → Int32), vSp (sSAA V i k f) = vSp V) ∧ (∀ (V : CV) (i k : Nat) (f : Nat → Int32), vTx (sSAA V i k f) = vTx V) ∧ (∀ (V : CV) (i k : Nat) (f : Nat → Int32), vD (sSAA V i k f) = vD V) ∧ (∀ (V : CV) (i k : Nat) (f : Nat → Int32), vSh (sSAA V i k f) = vSh V) ∧ (∀ (V : CV) (i k : Nat) (f : Nat → Int32), vHe (sSAA V i k f) = vHe V) ∧ (∀ (V : CV) (i k : Nat) (f : Nat → Int32), vFl (sSAA V i k f) = vFl V) ∧ (∀ (V : CV) (i k : Nat) (f : Nat → Int32), vM (sSAA V i k f) = vM V) ∧ (∀ (V : CV) (i j : Nat) (r : Option Nat), vI (sSp V i j r) = vI V) ∧ (∀ (V : CV) (i j : Nat) (r : Option Nat), vJ (sSp V i j r) = vJ V) ∧ (∀ (V : CV) (i j : Nat) (r : Option Nat), vA (sSp V i j r) = vA V) ∧ (∀ (V : CV) (i j : Nat) (r : Option Nat), vF (sSp V i j r) = vF V) ∧ (∀ (V : CV) (i j : Nat) (r : Option Nat), vS (sSp V i j r) = vS V) ∧ (∀ (V : CV) (i j : Nat) (r : Option Nat), vSA (sSp V i j r) = vSA V) ∧ (∀ (V : CV) (i j : Nat) (r : Option Nat) (i' j' : Nat), vSp (sSp V i j r) i' j' = if i' = i ∧ j' = j then r else vSp V i' j') ∧ (∀ (V : CV) (i j : Nat) (r : Option Nat), vTx (sSp V i j r) = vTx V) ∧ (∀ (V : CV) (i j : Nat) (r : Option Nat), vD (sSp V i j r) = vD V) ∧ (∀ (V : CV) (i j : Nat) (r : Option Nat), vSh (sSp V i j r) = vSh V) ∧ (∀ (V : CV) (i j : Nat) (r : Option Nat), vHe (sSp V i j r) = vHe V) ∧ (∀ (V : CV) (i j : Nat) (r : Option Nat), vFl (sSp V i j r) = vFl V) ∧ (∀ (V : CV) (i j : Nat) (r : Option Nat), vM (sSp V i j r) = vM V) ∧ (∀ (V : CV) (i j : Nat) (r : Option Nat), vI (sTx V i j r) = vI V) ∧ (∀ (V : CV) (i j : Nat) (r : Option Nat), vJ (sTx V i j r) = vJ V) ∧ (∀ (V : CV) (i j : Nat) (r : Option Nat), vA (sTx V i j r) = vA V) ∧ (∀ (V : CV) (i j : Nat) (r : Option Nat), vF (sTx V i j r) = vF V) ∧ (∀ (V : CV) (i j : Nat) (r : Option Nat), vS (sTx V i j r) = vS V) ∧ (∀ (V : CV) (i j : Nat) (r : Option Nat), vSA (sTx V i j r) = vSA V) ∧ (∀ (V : CV) (i j : Nat) (r : Option Nat), vSp (sTx V i j r) = vSp V) ∧ (∀ (V : CV) (i j : Nat) (r : Option Nat) (i' j' : Nat), vTx (sTx V i j r) i' j' = if i' = i ∧ j' = j then r else vTx V i' j') ∧ (∀ (V : CV) (i j : Nat) (r : Option Nat), vD (sTx V i j r) = vD V) ∧ (∀ (V : CV) (i j : Nat) (r : Option Nat), vSh (sTx V i j r) = vSh V) ∧ (∀ (V : CV) (i j : Nat) (r : Option Nat), vHe (sTx V i j r) = vHe V) ∧ (∀ (V : CV) (i j : Nat) (r : Option Nat), vFl (sTx V i j r) = vFl V) ∧ (∀ (V : CV) (i j : Nat) (r : Option Nat), vM (sTx V i j r) = vM V) ∧ (∀ (V : CV) (i : Nat) (f : Nat → Option Nat), vI (sTxA V i f) = vI V) ∧ (∀ (V : CV) (i : Nat) (f : Nat → Option Nat), vJ (sTxA V i f) = vJ V) ∧ (∀ (V : CV) (i : Nat) (f : Nat → Option Nat), vA (sTxA V i f) = vA V) ∧ (∀ (V : CV) (i : Nat) (f : Nat → Option Nat), vF (sTxA V i f) = vF V) ∧ (∀ (V : CV) (i : Nat) (f : Nat → Option Nat), vS (sTxA V i f) = vS V) ∧ (∀ (V : CV) (i : Nat) (f : Nat → Option Nat), vSA (sTxA V i f) = vSA V) ∧ (∀ (V : CV) (i : Nat) (f : Nat → Option Nat), vSp (sTxA V i f) = vSp V) ∧ (∀ (V : CV) (i : Nat) (f : Nat → Option Nat) (i' j' : Nat), vTx (sTxA V i f) i' j' = if i' = i then f j' else vTx V i' j') ∧ (∀ (V : CV) (i : Nat) (f : Nat → Option Nat), vD (sTxA V i f) = vD V) ∧ (∀ (V : CV) (i : Nat) (f : Nat → Option Nat), vSh (sTxA V i f) = vSh V) ∧ (∀ (V : CV) (i : Nat) (f : Nat → Option Nat), vHe (sTxA V i f) = vHe V) ∧ (∀ (V : CV) (i : Nat) (f : Nat → Option Nat), vFl (sTxA V i f) = vFl V) ∧ (∀ (V : CV) (i : Nat) (f : Nat → Option Nat), vM (sTxA V i f) = vM V) ∧ (∀ (V : CV) (i d k : Nat) (v : Int32), vI (sD V i d k v) = vI V) ∧ (∀ (V : CV) (i d k : Nat) (v : Int32), vJ (sD V i d k v) = vJ V) ∧ (∀ (V : CV) (i d k : Nat) (v : Int32), vA (sD V i d k v) = vA V) ∧ (∀ (V : CV) (i d k : Nat) (v : Int32), vF (sD V i d k v) = vF V) ∧ (∀ (V : CV) (i d k : Nat) (v : Int32), vS (sD V i d k v) = vS V) ∧ (∀ (V : CV) (i d k : Nat) (v : Int32), vSA (sD V i d k v) = vSA V) ∧ (∀ (V : CV) (i d k : Nat) (v : Int32), vSp (sD V i d k v) = vSp V) ∧ (∀ (V : CV) (i d k : Nat) (v : Int32), vTx (sD V i d k v) = vTx V) ∧ (∀ (V : CV) (i d k : Nat) (v : Int32) (i' d' k' : Nat), vD (sD V i d k v) i' d' k' = if i' = i ∧ d' = d ∧ k' = k then v else vD V i' d' k') ∧ (∀ (V : CV) (i d k : Nat) (v : Int32), vSh (sD V i d k v) = vSh V) ∧ (∀ (V : CV) (i d k : Nat) (v : Int32), vHe (sD V i d k v) = vHe V) ∧ (∀ (V : CV) (i d k : Nat) (v : Int32), vFl (sD V i d k v) = vFl V) ∧ (∀ (V : CV) (i d k : Nat) (v : Int32), vM (sD V i d k v) = vM V) ∧ (∀ (V : CV) (q : Nat) (r : Option Nat), vI (sHe V q r) = vI V) ∧ (∀ (V : CV) (q : Nat) (r : Option Nat), vJ (sHe V q r) = vJ V) ∧ (∀ (V : CV) (q : Nat) (r : Option Nat), vA (sHe V q r) = vA V) ∧ (∀ (V : CV) (q : Nat) (r : Option Nat), vF (sHe V q r) = vF V) ∧ (∀ (V : CV) (q : Nat) (r : Option Nat), vS (sHe V q r) = vS V) ∧ (∀ (V : CV) (q : Nat) (r : Option Nat), vSA (sHe V q r) = vSA V) ∧ (∀ (V : CV) (q : Nat) (r : Option Nat), vSp (sHe V q r) = vSp V) ∧ (∀ (V : CV) (q : Nat) (r : Option Nat), vTx (sHe V q r) = vTx V) ∧ (∀ (V : CV) (q : Nat) (r : Option Nat), vD (sHe V q r) = vD V) ∧ (∀ (V : CV) (q : Nat) (r : Option Nat), vSh (sHe V q r) = vSh V) ∧ (∀ (V : CV) (q : Nat) (r : Option Nat) (q' : Nat), vHe (sHe V q r) q' = if q' = q then r else vHe V q') ∧ (∀ (V : CV) (q : Nat) (r : Option Nat), vFl (sHe V q r) = vFl V) ∧ (∀ (V : CV) (q : Nat) (r : Option Nat), vM (sHe V q r) = vM V) ∧ (∀ (V : CV) (fs : List Value), vI (sFl V fs) = vI V) ∧ (∀ (V : CV) (fs : List Value), vJ (sFl V fs) = vJ V) ∧ (∀ (V : CV) (fs : List Value), vA (sFl V fs) = vA V) ∧ (∀ (V : CV) (fs : List Value), vF (sFl V fs) = vF V) ∧ (∀ (V : CV) (fs : List Value), vS (sFl V fs) = vS V) ∧ (∀ (V : CV) (fs : List Value), vSA (sFl V fs) = vSA V) ∧ (∀ (V : CV) (fs : List Value), vSp (sFl V fs) = vSp V) ∧ (∀ (V : CV) (fs : List Value), vTx (sFl V fs) = vTx V) ∧ (∀ (V : CV) (fs : List Value), vD (sFl V fs) = vD V) ∧ (∀ (V : CV) (fs : List Value), vSh (sFl V fs) = vSh V) ∧ (∀ (V : CV) (fs : List Value), vHe (sFl V fs) = vHe V) ∧ (∀ (V : CV) (fs : List Value), vFl (sFl V fs) = fs) ∧ (∀ (V : CV) (fs : List Value), vM (sFl V fs) = vM V) ∧ (∀ (V : CV) (M : HM), vI (sM V M) = vI V) ∧ (∀ (V : CV) (M : HM), vJ (sM V M) = vJ V) ∧ (∀ (V : CV) (M : HM), vA (sM V M) = vA V) ∧ (∀ (V : CV) (M : HM), vF (sM V M) = vF V) ∧ (∀ (V : CV) (M : HM), vS (sM V M) = vS V) ∧ (∀ (V : CV) (M : HM), vSA (sM V M) = vSA V) ∧ (∀ (V : CV) (M : HM), vSp (sM V M) = vSp V) ∧ (∀ (V : CV) (M : HM), vTx (sM V M) = vTx V) ∧ (∀ (V : CV) (M : HM), vD (sM V M) = vD V) ∧ (∀ (V : CV) (M : HM), vSh (sM V M) = vSh V) ∧ (∀ (V : CV) (M : HM), vHe (sM V M) = vHe V) ∧ (∀ (V : CV) (M : HM), vFl (sM V M) = vFl V) ∧ (∀ (V : CV) (M : HM), vM (sM V M) = M) := by
  and_intros <;> intros <;> rfl
def xfs (ad : AD) (V : CV) : List Value := [.ref (ad 1 0 0), .ref (ad 1 1 0), .ref (ad 1 2 0), .int (vI V 3), .ref (ad 2 4 0), .ref (ad 2 5 0), .int (vI V 6), .ref (ad 6 0 0), .int (vI V 8), .int (vI V 9), .int (vI V 10), .int (vI V 11), .int (vI V 12), .int (vI V 13), .int (vI V 14), .ref (ad 2 15 0), .ref (ad 2 16 0), .long (vJ V 17), .long (vJ V 18), .ref (ad 2 19 0), .ref (ad 2 20 0), .ref (ad 2 21 0), .ref (ad 2 22 0), .int (vI V 23), .ref (ad 2 24 0)]
def sfs (ad : AD) (V : CV) (i : Nat) : List Value := [.int (vS V i 0), .int (vS V i 1), .int (vS V i 2), .ref (ad 3 i 3), .ref (ad 3 i 4), .ref (ad 3 i 5), .ref (ad 3 i 6), .int (vS V i 7), .ref (ad 3 i 8), .int (vS V i 9), .ref (ad 3 i 10)]
def dfs (V : CV) (i d : Nat) : List Value := [.int (vD V i d 0), .int (vD V i d 1), .int (vD V i d 2), .int (vD V i d 3), .int (vD V i d 4), .int (vD V i d 5)]
def xarr (ad : AD) (V : CV) (k : Nat) : Option va_E := match k with
  | 4 => some (.inl (0, 96, .inl (vA V 4)))
  | 5 => some (.inl (1, 96, .inl (vA V 5)))
  | 15 => some (.inl (0, 128, .inl (vA V 15)))
  | 16 => some (.inl (0, 12, .inl (vA V 16)))
  | 19 => some (.inl (7, 4, .inr (.inr (.inr (.inr (vSh V))))))
  | 20 => some (.inl (8, 5, .inr (.inr (.inr (.inr (fun q => some (ad 5 q 0)))))))
  | 21 => some (.inl (3, 24, .inr (.inr (.inl (vF V)))))
  | 22 => some (.inl (0, 60, .inl (vA V 22)))
  | 24 => some (.inl (0, 60, .inl (vA V 24)))
  | _ => none
def sarr (ad : AD) (V : CV) (i k : Nat) : Option va_E := match k with
  | 3 => some (.inl (4, 12, .inr (.inr (.inr (.inr (vSp V i))))))
  | 4 => some (.inl (0, 12, .inl (vSA V i 4)))
  | 5 => some (.inl (0, 12, .inl (vSA V i 5)))
  | 6 => some (.inl (0, 12, .inl (vSA V i 6)))
  | 8 => some (.inl (5, 8, .inr (.inr (.inr (.inr (fun d => some (ad 4 i d)))))))
  | 10 => some (.inl (6, 14, .inr (.inr (.inr (.inr (vTx V i))))))
  | _ => none
def cpic (ad : AD) (V : CV) : PIC := fun r i j => match r with
  | 0 => if i = 0 ∧ j = 0 then some (.inr (0, xfs ad V)) else none
  | 1 => if i < 3 ∧ j = 0 then some (.inr (1, sfs ad V i)) else none
  | 2 => if j = 0 then xarr ad V i else none
  | 3 => if i < 3 then sarr ad V i j else none
  | 4 => if i < 3 ∧ j < 8 then some (.inr (2, dfs V i j)) else none
  | 5 => if i < 5 ∧ j = 0 then some (.inr (5, [va_rf (vHe V i)])) else none
  | 6 => if i = 0 ∧ j = 0 then some (.inr (3, vFl V)) else none
  | _ => none
def cB (D : DD) (A : Nat → Prop) (ad : AD) (V : CV) (H : Heap) : Prop := gH D A ad (cpic ad V) (vM V) H ∧ ∀ q : Nat, H.size ≤ q → A q
theorem cpic_eq {ad : AD} {V V' : CV} {r i j : Nat} {e : va_E} (h1 : cpic ad V' r i j = some e) (h2 : ∀ r' i' j', ¬ (r' = r ∧ i' = i ∧ j' = j) → cpic ad V r' i' j' = cpic ad V' r' i' j') : pset (cpic ad V) r i j e = cpic ad V' := by
  funext r' i' j'
  unfold pset
  split
  · rename_i q
    obtain ⟨rfl, rfl, rfl⟩ := q
    exact h1.symm
  · rename_i q
    exact h2 _ _ _ q
theorem cpic0 {ad : AD} {V : CV} : cpic ad V 0 0 0 = some (.inr (0, xfs ad V)) := rfl
theorem cpic1 {ad : AD} {V : CV} {i : Nat} (hi : i < 3) : cpic ad V 1 i 0 = some (.inr (1, sfs ad V i)) := if_pos ⟨hi, rfl⟩
theorem cpic2 {ad : AD} {V : CV} {k : Nat} : cpic ad V 2 k 0 = xarr ad V k := rfl
theorem cpic3 {ad : AD} {V : CV} {i k : Nat} (hi : i < 3) : cpic ad V 3 i k = sarr ad V i k := if_pos hi
theorem cpic4 {ad : AD} {V : CV} {i d : Nat} (hi : i < 3) (hd : d < 8) : cpic ad V 4 i d = some (.inr (2, dfs V i d)) := if_pos ⟨hi, hd⟩
theorem cpic5 {ad : AD} {V : CV} {q : Nat} (hq : q < 5) : cpic ad V 5 q 0 = some (.inr (5, [va_rf (vHe V q)])) := if_pos ⟨hq, rfl⟩
theorem cpic6 {ad : AD} {V : CV} : cpic ad V 6 0 0 = some (.inr (3, vFl V)) := rfl
theorem sarr_i {ad : AD} {V : CV} {i k : Nat} (hk : k = 4 ∨ k = 5 ∨ k = 6) : sarr ad V i k = some (.inl (0, 12, .inl (vSA V i k))) := by rcases hk with rfl | rfl | rfl <;> rfl
theorem cx_3 {ad : AD} {V : CV} {v : Int32} : pset (cpic ad V) 0 0 0 (.inr (0, (xfs ad V).set 3 (.int v))) = cpic ad (sI V 3 v) := by
  refine cpic_eq ?_ ?_
  · rfl
  · intro r' i' j' hn
    match r' with
    | 0 => have h : ¬ (i' = 0 ∧ j' = 0) := fun q => hn ⟨rfl, q⟩; simp only [cpic, if_neg h]
    | 1 => rfl
    | 2 => rfl
    | 3 => rfl
    | 4 => rfl
    | 5 => rfl
    | 6 => rfl
    | n + 7 => rfl
theorem cx_6 {ad : AD} {V : CV} {v : Int32} : pset (cpic ad V) 0 0 0 (.inr (0, (xfs ad V).set 6 (.int v))) = cpic ad (sI V 6 v) := by
  refine cpic_eq ?_ ?_
  · rfl
  · intro r' i' j' hn
    match r' with
    | 0 => have h : ¬ (i' = 0 ∧ j' = 0) := fun q => hn ⟨rfl, q⟩; simp only [cpic, if_neg h]
    | 1 => rfl
    | 2 => rfl
    | 3 => rfl
    | 4 => rfl
    | 5 => rfl
    | 6 => rfl
    | n + 7 => rfl
theorem cx_8 {ad : AD} {V : CV} {v : Int32} : pset (cpic ad V) 0 0 0 (.inr (0, (xfs ad V).set 8 (.int v))) = cpic ad (sI V 8 v) := by
  refine cpic_eq ?_ ?_
  · rfl
  · intro r' i' j' hn
    match r' with
    | 0 => have h : ¬ (i' = 0 ∧ j' = 0) := fun q => hn ⟨rfl, q⟩; simp only [cpic, if_neg h]
    | 1 => rfl
    | 2 => rfl
    | 3 => rfl
    | 4 => rfl
    | 5 => rfl
    | 6 => rfl
    | n + 7 => rfl
theorem cx_9 {ad : AD} {V : CV} {v : Int32} : pset (cpic ad V) 0 0 0 (.inr (0, (xfs ad V).set 9 (.int v))) = cpic ad (sI V 9 v) := by
  refine cpic_eq ?_ ?_
  · rfl
  · intro r' i' j' hn
    match r' with
    | 0 => have h : ¬ (i' = 0 ∧ j' = 0) := fun q => hn ⟨rfl, q⟩; simp only [cpic, if_neg h]
    | 1 => rfl
    | 2 => rfl
    | 3 => rfl
    | 4 => rfl
    | 5 => rfl
    | 6 => rfl
    | n + 7 => rfl
theorem cx_10 {ad : AD} {V : CV} {v : Int32} : pset (cpic ad V) 0 0 0 (.inr (0, (xfs ad V).set 10 (.int v))) = cpic ad (sI V 10 v) := by
  refine cpic_eq ?_ ?_
  · rfl
  · intro r' i' j' hn
    match r' with
    | 0 => have h : ¬ (i' = 0 ∧ j' = 0) := fun q => hn ⟨rfl, q⟩; simp only [cpic, if_neg h]
    | 1 => rfl
    | 2 => rfl
    | 3 => rfl
    | 4 => rfl
    | 5 => rfl
    | 6 => rfl
    | n + 7 => rfl
theorem cx_11 {ad : AD} {V : CV} {v : Int32} : pset (cpic ad V) 0 0 0 (.inr (0, (xfs ad V).set 11 (.int v))) = cpic ad (sI V 11 v) := by
  refine cpic_eq ?_ ?_
  · rfl
  · intro r' i' j' hn
    match r' with
    | 0 => have h : ¬ (i' = 0 ∧ j' = 0) := fun q => hn ⟨rfl, q⟩; simp only [cpic, if_neg h]
    | 1 => rfl
    | 2 => rfl
    | 3 => rfl
    | 4 => rfl
    | 5 => rfl
    | 6 => rfl
    | n + 7 => rfl
theorem cx_12 {ad : AD} {V : CV} {v : Int32} : pset (cpic ad V) 0 0 0 (.inr (0, (xfs ad V).set 12 (.int v))) = cpic ad (sI V 12 v) := by
  refine cpic_eq ?_ ?_
  · rfl
  · intro r' i' j' hn
    match r' with
    | 0 => have h : ¬ (i' = 0 ∧ j' = 0) := fun q => hn ⟨rfl, q⟩; simp only [cpic, if_neg h]
    | 1 => rfl
    | 2 => rfl
    | 3 => rfl
    | 4 => rfl
    | 5 => rfl
    | 6 => rfl
    | n + 7 => rfl
theorem cx_13 {ad : AD} {V : CV} {v : Int32} : pset (cpic ad V) 0 0 0 (.inr (0, (xfs ad V).set 13 (.int v))) = cpic ad (sI V 13 v) := by
  refine cpic_eq ?_ ?_
  · rfl
  · intro r' i' j' hn
    match r' with
    | 0 => have h : ¬ (i' = 0 ∧ j' = 0) := fun q => hn ⟨rfl, q⟩; simp only [cpic, if_neg h]
    | 1 => rfl
    | 2 => rfl
    | 3 => rfl
    | 4 => rfl
    | 5 => rfl
    | 6 => rfl
    | n + 7 => rfl
theorem cx_14 {ad : AD} {V : CV} {v : Int32} : pset (cpic ad V) 0 0 0 (.inr (0, (xfs ad V).set 14 (.int v))) = cpic ad (sI V 14 v) := by
  refine cpic_eq ?_ ?_
  · rfl
  · intro r' i' j' hn
    match r' with
    | 0 => have h : ¬ (i' = 0 ∧ j' = 0) := fun q => hn ⟨rfl, q⟩; simp only [cpic, if_neg h]
    | 1 => rfl
    | 2 => rfl
    | 3 => rfl
    | 4 => rfl
    | 5 => rfl
    | 6 => rfl
    | n + 7 => rfl
theorem cx_23 {ad : AD} {V : CV} {v : Int32} : pset (cpic ad V) 0 0 0 (.inr (0, (xfs ad V).set 23 (.int v))) = cpic ad (sI V 23 v) := by
  refine cpic_eq ?_ ?_
  · rfl
  · intro r' i' j' hn
    match r' with
    | 0 => have h : ¬ (i' = 0 ∧ j' = 0) := fun q => hn ⟨rfl, q⟩; simp only [cpic, if_neg h]
    | 1 => rfl
    | 2 => rfl
    | 3 => rfl
    | 4 => rfl
    | 5 => rfl
    | 6 => rfl
    | n + 7 => rfl
theorem cx_17 {ad : AD} {V : CV} {v : Int64} : pset (cpic ad V) 0 0 0 (.inr (0, (xfs ad V).set 17 (.long v))) = cpic ad (sJ V 17 v) := by
  refine cpic_eq ?_ ?_
  · rfl
  · intro r' i' j' hn
    match r' with
    | 0 => have h : ¬ (i' = 0 ∧ j' = 0) := fun q => hn ⟨rfl, q⟩; simp only [cpic, if_neg h]
    | 1 => rfl
    | 2 => rfl
    | 3 => rfl
    | 4 => rfl
    | 5 => rfl
    | 6 => rfl
    | n + 7 => rfl
theorem cx_18 {ad : AD} {V : CV} {v : Int64} : pset (cpic ad V) 0 0 0 (.inr (0, (xfs ad V).set 18 (.long v))) = cpic ad (sJ V 18 v) := by
  refine cpic_eq ?_ ?_
  · rfl
  · intro r' i' j' hn
    match r' with
    | 0 => have h : ¬ (i' = 0 ∧ j' = 0) := fun q => hn ⟨rfl, q⟩; simp only [cpic, if_neg h]
    | 1 => rfl
    | 2 => rfl
    | 3 => rfl
    | 4 => rfl
    | 5 => rfl
    | 6 => rfl
    | n + 7 => rfl
theorem cs_0 {ad : AD} {V : CV} {i : Nat} {v : Int32} (hi : i < 3) : pset (cpic ad V) 1 i 0 (.inr (1, (sfs ad V i).set 0 (.int v))) = cpic ad (sS V i 0 v) := by
  refine cpic_eq ?_ ?_
  · rw [cpic1 hi]; simp [sfs, cvs]
  · intro r' i' j' hn
    match r' with
    | 0 => rfl
    | 1 => by_cases h : i' = i
           · have h2 : ¬ j' = 0 := fun q => hn ⟨rfl, h, q⟩
             simp [cpic, h2]
           · simp [cpic, sfs, cvs, h]
    | 2 => rfl
    | 3 => rfl
    | 4 => rfl
    | 5 => rfl
    | 6 => rfl
    | n + 7 => rfl
theorem cs_1 {ad : AD} {V : CV} {i : Nat} {v : Int32} (hi : i < 3) : pset (cpic ad V) 1 i 0 (.inr (1, (sfs ad V i).set 1 (.int v))) = cpic ad (sS V i 1 v) := by
  refine cpic_eq ?_ ?_
  · rw [cpic1 hi]; simp [sfs, cvs]
  · intro r' i' j' hn
    match r' with
    | 0 => rfl
    | 1 => by_cases h : i' = i
           · have h2 : ¬ j' = 0 := fun q => hn ⟨rfl, h, q⟩
             simp [cpic, h2]
           · simp [cpic, sfs, cvs, h]
    | 2 => rfl
    | 3 => rfl
    | 4 => rfl
    | 5 => rfl
    | 6 => rfl
    | n + 7 => rfl
theorem cs_2 {ad : AD} {V : CV} {i : Nat} {v : Int32} (hi : i < 3) : pset (cpic ad V) 1 i 0 (.inr (1, (sfs ad V i).set 2 (.int v))) = cpic ad (sS V i 2 v) := by
  refine cpic_eq ?_ ?_
  · rw [cpic1 hi]; simp [sfs, cvs]
  · intro r' i' j' hn
    match r' with
    | 0 => rfl
    | 1 => by_cases h : i' = i
           · have h2 : ¬ j' = 0 := fun q => hn ⟨rfl, h, q⟩
             simp [cpic, h2]
           · simp [cpic, sfs, cvs, h]
    | 2 => rfl
    | 3 => rfl
    | 4 => rfl
    | 5 => rfl
    | 6 => rfl
    | n + 7 => rfl
theorem cs_7 {ad : AD} {V : CV} {i : Nat} {v : Int32} (hi : i < 3) : pset (cpic ad V) 1 i 0 (.inr (1, (sfs ad V i).set 7 (.int v))) = cpic ad (sS V i 7 v) := by
  refine cpic_eq ?_ ?_
  · rw [cpic1 hi]; simp [sfs, cvs]
  · intro r' i' j' hn
    match r' with
    | 0 => rfl
    | 1 => by_cases h : i' = i
           · have h2 : ¬ j' = 0 := fun q => hn ⟨rfl, h, q⟩
             simp [cpic, h2]
           · simp [cpic, sfs, cvs, h]
    | 2 => rfl
    | 3 => rfl
    | 4 => rfl
    | 5 => rfl
    | 6 => rfl
    | n + 7 => rfl
theorem cs_9 {ad : AD} {V : CV} {i : Nat} {v : Int32} (hi : i < 3) : pset (cpic ad V) 1 i 0 (.inr (1, (sfs ad V i).set 9 (.int v))) = cpic ad (sS V i 9 v) := by
  refine cpic_eq ?_ ?_
  · rw [cpic1 hi]; simp [sfs, cvs]
  · intro r' i' j' hn
    match r' with
    | 0 => rfl
    | 1 => by_cases h : i' = i
           · have h2 : ¬ j' = 0 := fun q => hn ⟨rfl, h, q⟩
             simp [cpic, h2]
           · simp [cpic, sfs, cvs, h]
    | 2 => rfl
    | 3 => rfl
    | 4 => rfl
    | 5 => rfl
    | 6 => rfl
    | n + 7 => rfl
theorem cd_0 {ad : AD} {V : CV} {i d : Nat} {v : Int32} (hi : i < 3) (hd : d < 8) : pset (cpic ad V) 4 i d (.inr (2, (dfs V i d).set 0 (.int v))) = cpic ad (sD V i d 0 v) := by
  refine cpic_eq ?_ ?_
  · rw [cpic4 hi hd]; simp [dfs, cvs]
  · intro r' i' j' hn
    match r' with
    | 0 => rfl
    | 1 => rfl
    | 2 => rfl
    | 3 => rfl
    | 4 => by_cases h : i' = i
           · have h2 : ¬ j' = d := fun q => hn ⟨rfl, h, q⟩
             simp [cpic, dfs, cvs, h2]
           · simp [cpic, dfs, cvs, h]
    | 5 => rfl
    | 6 => rfl
    | n + 7 => rfl
theorem cd_1 {ad : AD} {V : CV} {i d : Nat} {v : Int32} (hi : i < 3) (hd : d < 8) : pset (cpic ad V) 4 i d (.inr (2, (dfs V i d).set 1 (.int v))) = cpic ad (sD V i d 1 v) := by
  refine cpic_eq ?_ ?_
  · rw [cpic4 hi hd]; simp [dfs, cvs]
  · intro r' i' j' hn
    match r' with
    | 0 => rfl
    | 1 => rfl
    | 2 => rfl
    | 3 => rfl
    | 4 => by_cases h : i' = i
           · have h2 : ¬ j' = d := fun q => hn ⟨rfl, h, q⟩
             simp [cpic, dfs, cvs, h2]
           · simp [cpic, dfs, cvs, h]
    | 5 => rfl
    | 6 => rfl
    | n + 7 => rfl
theorem cd_2 {ad : AD} {V : CV} {i d : Nat} {v : Int32} (hi : i < 3) (hd : d < 8) : pset (cpic ad V) 4 i d (.inr (2, (dfs V i d).set 2 (.int v))) = cpic ad (sD V i d 2 v) := by
  refine cpic_eq ?_ ?_
  · rw [cpic4 hi hd]; simp [dfs, cvs]
  · intro r' i' j' hn
    match r' with
    | 0 => rfl
    | 1 => rfl
    | 2 => rfl
    | 3 => rfl
    | 4 => by_cases h : i' = i
           · have h2 : ¬ j' = d := fun q => hn ⟨rfl, h, q⟩
             simp [cpic, dfs, cvs, h2]
           · simp [cpic, dfs, cvs, h]
    | 5 => rfl
    | 6 => rfl
    | n + 7 => rfl
theorem cd_3 {ad : AD} {V : CV} {i d : Nat} {v : Int32} (hi : i < 3) (hd : d < 8) : pset (cpic ad V) 4 i d (.inr (2, (dfs V i d).set 3 (.int v))) = cpic ad (sD V i d 3 v) := by
  refine cpic_eq ?_ ?_
  · rw [cpic4 hi hd]; simp [dfs, cvs]
  · intro r' i' j' hn
    match r' with
    | 0 => rfl
    | 1 => rfl
    | 2 => rfl
    | 3 => rfl
    | 4 => by_cases h : i' = i
           · have h2 : ¬ j' = d := fun q => hn ⟨rfl, h, q⟩
             simp [cpic, dfs, cvs, h2]
           · simp [cpic, dfs, cvs, h]
    | 5 => rfl
    | 6 => rfl
    | n + 7 => rfl
theorem cd_4 {ad : AD} {V : CV} {i d : Nat} {v : Int32} (hi : i < 3) (hd : d < 8) : pset (cpic ad V) 4 i d (.inr (2, (dfs V i d).set 4 (.int v))) = cpic ad (sD V i d 4 v) := by
  refine cpic_eq ?_ ?_
  · rw [cpic4 hi hd]; simp [dfs, cvs]
  · intro r' i' j' hn
    match r' with
    | 0 => rfl
    | 1 => rfl
    | 2 => rfl
    | 3 => rfl
    | 4 => by_cases h : i' = i
           · have h2 : ¬ j' = d := fun q => hn ⟨rfl, h, q⟩
             simp [cpic, dfs, cvs, h2]
           · simp [cpic, dfs, cvs, h]
    | 5 => rfl
    | 6 => rfl
    | n + 7 => rfl
theorem cd_5 {ad : AD} {V : CV} {i d : Nat} {v : Int32} (hi : i < 3) (hd : d < 8) : pset (cpic ad V) 4 i d (.inr (2, (dfs V i d).set 5 (.int v))) = cpic ad (sD V i d 5 v) := by
  refine cpic_eq ?_ ?_
  · rw [cpic4 hi hd]; simp [dfs, cvs]
  · intro r' i' j' hn
    match r' with
    | 0 => rfl
    | 1 => rfl
    | 2 => rfl
    | 3 => rfl
    | 4 => by_cases h : i' = i
           · have h2 : ¬ j' = d := fun q => hn ⟨rfl, h, q⟩
             simp [cpic, dfs, cvs, h2]
           · simp [cpic, dfs, cvs, h]
    | 5 => rfl
    | 6 => rfl
    | n + 7 => rfl
theorem ch_ {ad : AD} {V : CV} {q : Nat} {r : Option Nat} (hq : q < 5) : pset (cpic ad V) 5 q 0 (.inr (5, [va_rf r])) = cpic ad (sHe V q r) := by
  refine cpic_eq ?_ ?_
  · rw [cpic5 hq]; simp [cvs]
  · intro r' i' j' hn
    match r' with
    | 0 => rfl
    | 1 => rfl
    | 2 => rfl
    | 3 => rfl
    | 4 => rfl
    | 5 => by_cases h : i' = q
           · have h2 : ¬ j' = 0 := fun z => hn ⟨rfl, h, z⟩
             simp [cpic, h2]
           · simp [cpic, cvs, h]
    | 6 => rfl
    | n + 7 => rfl
theorem cf_ {ad : AD} {V : CV} {fs : List Value} : pset (cpic ad V) 6 0 0 (.inr (3, fs)) = cpic ad (sFl V fs) := by
  refine cpic_eq ?_ ?_
  · rfl
  · intro r' i' j' hn
    match r' with
    | 0 => rfl
    | 1 => rfl
    | 2 => rfl
    | 3 => rfl
    | 4 => rfl
    | 5 => rfl
    | 6 => have h : ¬ (i' = 0 ∧ j' = 0) := fun q => hn ⟨rfl, q⟩; simp only [cpic, if_neg h]
    | n + 7 => rfl
theorem ca_4 {ad : AD} {V : CV} {j : Nat} {v : Int32} : pset (cpic ad V) 2 4 0 (.inl (0, 96, .inl (upd (vA V 4) j v))) = cpic ad (sA V 4 j v) := by
  refine cpic_eq ?_ ?_
  · rw [cpic2]; show some _ = some _; congr 5; funext q; simp [cvs, upd]
  · intro r' i' j' hn
    match r' with
    | 0 => rfl
    | 1 => rfl
    | 2 => by_cases h : i' = 4
           · have h2 : ¬ j' = 0 := fun z => hn ⟨rfl, h, z⟩
             simp [cpic, h2]
           · by_cases h2 : j' = 0
             · simp only [cpic, h2, if_true]; unfold xarr; split <;> first | rfl | (exact absurd rfl h) | simp [cvs]
             · simp [cpic, h2]
    | 3 => rfl
    | 4 => rfl
    | 5 => rfl
    | 6 => rfl
    | n + 7 => rfl
theorem caa_4 {ad : AD} {V : CV} {f : Nat → Int32} : pset (cpic ad V) 2 4 0 (.inl (0, 96, .inl f)) = cpic ad (sAA V 4 f) := by
  refine cpic_eq ?_ ?_
  · rw [cpic2]; show some _ = some _; congr 5
  · intro r' i' j' hn
    match r' with
    | 0 => rfl
    | 1 => rfl
    | 2 => by_cases h : i' = 4
           · have h2 : ¬ j' = 0 := fun z => hn ⟨rfl, h, z⟩
             simp [cpic, h2]
           · by_cases h2 : j' = 0
             · simp only [cpic, h2, if_true]; unfold xarr; split <;> first | rfl | (exact absurd rfl h) | simp [cvs]
             · simp [cpic, h2]
    | 3 => rfl
    | 4 => rfl
    | 5 => rfl
    | 6 => rfl
    | n + 7 => rfl
theorem ca_5 {ad : AD} {V : CV} {j : Nat} {v : Int32} : pset (cpic ad V) 2 5 0 (.inl (1, 96, .inl (upd (vA V 5) j v))) = cpic ad (sA V 5 j v) := by
  refine cpic_eq ?_ ?_
  · rw [cpic2]; show some _ = some _; congr 5; funext q; simp [cvs, upd]
  · intro r' i' j' hn
    match r' with
    | 0 => rfl
    | 1 => rfl
    | 2 => by_cases h : i' = 5
           · have h2 : ¬ j' = 0 := fun z => hn ⟨rfl, h, z⟩
             simp [cpic, h2]
           · by_cases h2 : j' = 0
             · simp only [cpic, h2, if_true]; unfold xarr; split <;> first | rfl | (exact absurd rfl h) | simp [cvs]
             · simp [cpic, h2]
    | 3 => rfl
    | 4 => rfl
    | 5 => rfl
    | 6 => rfl
    | n + 7 => rfl
theorem caa_5 {ad : AD} {V : CV} {f : Nat → Int32} : pset (cpic ad V) 2 5 0 (.inl (1, 96, .inl f)) = cpic ad (sAA V 5 f) := by
  refine cpic_eq ?_ ?_
  · rw [cpic2]; show some _ = some _; congr 5
  · intro r' i' j' hn
    match r' with
    | 0 => rfl
    | 1 => rfl
    | 2 => by_cases h : i' = 5
           · have h2 : ¬ j' = 0 := fun z => hn ⟨rfl, h, z⟩
             simp [cpic, h2]
           · by_cases h2 : j' = 0
             · simp only [cpic, h2, if_true]; unfold xarr; split <;> first | rfl | (exact absurd rfl h) | simp [cvs]
             · simp [cpic, h2]
    | 3 => rfl
    | 4 => rfl
    | 5 => rfl
    | 6 => rfl
    | n + 7 => rfl
theorem ca_15 {ad : AD} {V : CV} {j : Nat} {v : Int32} : pset (cpic ad V) 2 15 0 (.inl (0, 128, .inl (upd (vA V 15) j v))) = cpic ad (sA V 15 j v) := by
  refine cpic_eq ?_ ?_
  · rw [cpic2]; show some _ = some _; congr 5; funext q; simp [cvs, upd]
  · intro r' i' j' hn
    match r' with
    | 0 => rfl
    | 1 => rfl
    | 2 => by_cases h : i' = 15
           · have h2 : ¬ j' = 0 := fun z => hn ⟨rfl, h, z⟩
             simp [cpic, h2]
           · by_cases h2 : j' = 0
             · simp only [cpic, h2, if_true]; unfold xarr; split <;> first | rfl | (exact absurd rfl h) | simp [cvs]
             · simp [cpic, h2]
    | 3 => rfl
    | 4 => rfl
    | 5 => rfl
    | 6 => rfl
    | n + 7 => rfl
theorem caa_15 {ad : AD} {V : CV} {f : Nat → Int32} : pset (cpic ad V) 2 15 0 (.inl (0, 128, .inl f)) = cpic ad (sAA V 15 f) := by
  refine cpic_eq ?_ ?_
  · rw [cpic2]; show some _ = some _; congr 5
  · intro r' i' j' hn
    match r' with
    | 0 => rfl
    | 1 => rfl
    | 2 => by_cases h : i' = 15
           · have h2 : ¬ j' = 0 := fun z => hn ⟨rfl, h, z⟩
             simp [cpic, h2]
           · by_cases h2 : j' = 0
             · simp only [cpic, h2, if_true]; unfold xarr; split <;> first | rfl | (exact absurd rfl h) | simp [cvs]
             · simp [cpic, h2]
    | 3 => rfl
    | 4 => rfl
    | 5 => rfl
    | 6 => rfl
    | n + 7 => rfl
theorem ca_16 {ad : AD} {V : CV} {j : Nat} {v : Int32} : pset (cpic ad V) 2 16 0 (.inl (0, 12, .inl (upd (vA V 16) j v))) = cpic ad (sA V 16 j v) := by
  refine cpic_eq ?_ ?_
  · rw [cpic2]; show some _ = some _; congr 5; funext q; simp [cvs, upd]
  · intro r' i' j' hn
    match r' with
    | 0 => rfl
    | 1 => rfl
    | 2 => by_cases h : i' = 16
           · have h2 : ¬ j' = 0 := fun z => hn ⟨rfl, h, z⟩
             simp [cpic, h2]
           · by_cases h2 : j' = 0
             · simp only [cpic, h2, if_true]; unfold xarr; split <;> first | rfl | (exact absurd rfl h) | simp [cvs]
             · simp [cpic, h2]
    | 3 => rfl
    | 4 => rfl
    | 5 => rfl
    | 6 => rfl
    | n + 7 => rfl
theorem caa_16 {ad : AD} {V : CV} {f : Nat → Int32} : pset (cpic ad V) 2 16 0 (.inl (0, 12, .inl f)) = cpic ad (sAA V 16 f) := by
  refine cpic_eq ?_ ?_
  · rw [cpic2]; show some _ = some _; congr 5
  · intro r' i' j' hn
    match r' with
    | 0 => rfl
    | 1 => rfl
    | 2 => by_cases h : i' = 16
           · have h2 : ¬ j' = 0 := fun z => hn ⟨rfl, h, z⟩
             simp [cpic, h2]
           · by_cases h2 : j' = 0
             · simp only [cpic, h2, if_true]; unfold xarr; split <;> first | rfl | (exact absurd rfl h) | simp [cvs]
             · simp [cpic, h2]
    | 3 => rfl
    | 4 => rfl
    | 5 => rfl
    | 6 => rfl
    | n + 7 => rfl
theorem ca_22 {ad : AD} {V : CV} {j : Nat} {v : Int32} : pset (cpic ad V) 2 22 0 (.inl (0, 60, .inl (upd (vA V 22) j v))) = cpic ad (sA V 22 j v) := by
  refine cpic_eq ?_ ?_
  · rw [cpic2]; show some _ = some _; congr 5; funext q; simp [cvs, upd]
  · intro r' i' j' hn
    match r' with
    | 0 => rfl
    | 1 => rfl
    | 2 => by_cases h : i' = 22
           · have h2 : ¬ j' = 0 := fun z => hn ⟨rfl, h, z⟩
             simp [cpic, h2]
           · by_cases h2 : j' = 0
             · simp only [cpic, h2, if_true]; unfold xarr; split <;> first | rfl | (exact absurd rfl h) | simp [cvs]
             · simp [cpic, h2]
    | 3 => rfl
    | 4 => rfl
    | 5 => rfl
    | 6 => rfl
    | n + 7 => rfl
theorem caa_22 {ad : AD} {V : CV} {f : Nat → Int32} : pset (cpic ad V) 2 22 0 (.inl (0, 60, .inl f)) = cpic ad (sAA V 22 f) := by
  refine cpic_eq ?_ ?_
  · rw [cpic2]; show some _ = some _; congr 5
  · intro r' i' j' hn
    match r' with
    | 0 => rfl
    | 1 => rfl
    | 2 => by_cases h : i' = 22
           · have h2 : ¬ j' = 0 := fun z => hn ⟨rfl, h, z⟩
             simp [cpic, h2]
           · by_cases h2 : j' = 0
             · simp only [cpic, h2, if_true]; unfold xarr; split <;> first | rfl | (exact absurd rfl h) | simp [cvs]
             · simp [cpic, h2]
    | 3 => rfl
    | 4 => rfl
    | 5 => rfl
    | 6 => rfl
    | n + 7 => rfl
theorem ca_24 {ad : AD} {V : CV} {j : Nat} {v : Int32} : pset (cpic ad V) 2 24 0 (.inl (0, 60, .inl (upd (vA V 24) j v))) = cpic ad (sA V 24 j v) := by
  refine cpic_eq ?_ ?_
  · rw [cpic2]; show some _ = some _; congr 5; funext q; simp [cvs, upd]
  · intro r' i' j' hn
    match r' with
    | 0 => rfl
    | 1 => rfl
    | 2 => by_cases h : i' = 24
           · have h2 : ¬ j' = 0 := fun z => hn ⟨rfl, h, z⟩
             simp [cpic, h2]
           · by_cases h2 : j' = 0
             · simp only [cpic, h2, if_true]; unfold xarr; split <;> first | rfl | (exact absurd rfl h) | simp [cvs]
             · simp [cpic, h2]
    | 3 => rfl
    | 4 => rfl
    | 5 => rfl
    | 6 => rfl
    | n + 7 => rfl
theorem caa_24 {ad : AD} {V : CV} {f : Nat → Int32} : pset (cpic ad V) 2 24 0 (.inl (0, 60, .inl f)) = cpic ad (sAA V 24 f) := by
  refine cpic_eq ?_ ?_
  · rw [cpic2]; show some _ = some _; congr 5
  · intro r' i' j' hn
    match r' with
    | 0 => rfl
    | 1 => rfl
    | 2 => by_cases h : i' = 24
           · have h2 : ¬ j' = 0 := fun z => hn ⟨rfl, h, z⟩
             simp [cpic, h2]
           · by_cases h2 : j' = 0
             · simp only [cpic, h2, if_true]; unfold xarr; split <;> first | rfl | (exact absurd rfl h) | simp [cvs]
             · simp [cpic, h2]
    | 3 => rfl
    | 4 => rfl
    | 5 => rfl
    | 6 => rfl
    | n + 7 => rfl
theorem ca_21 {ad : AD} {V : CV} {j : Nat} {v : UInt32} : pset (cpic ad V) 2 21 0 (.inl (3, 24, .inr (.inr (.inl (vf_upd (vF V) j v))))) = cpic ad (sF V j v) := by
  refine cpic_eq ?_ ?_
  · rw [cpic2]; rfl
  · intro r' i' j' hn
    match r' with
    | 0 => rfl
    | 1 => rfl
    | 2 => by_cases h : i' = 21
           · have h2 : ¬ j' = 0 := fun z => hn ⟨rfl, h, z⟩
             simp [cpic, h2]
           · by_cases h2 : j' = 0
             · simp only [cpic, h2, if_true]; unfold xarr; split <;> first | rfl | (exact absurd rfl h) | simp [cvs]
             · simp [cpic, h2]
    | 3 => rfl
    | 4 => rfl
    | 5 => rfl
    | 6 => rfl
    | n + 7 => rfl
theorem csa_ {ad : AD} {V : CV} {i k j : Nat} {v : Int32} (hi : i < 3) (hk : k = 4 ∨ k = 5 ∨ k = 6) : pset (cpic ad V) 3 i k (.inl (0, 12, .inl (upd (vSA V i k) j v))) = cpic ad (sSA V i k j v) := by
  refine cpic_eq ?_ ?_
  · rw [cpic3 hi, sarr_i hk]; congr 5; funext q; simp [cvs, upd]
  · intro r' i' j' hn
    match r' with
    | 0 => rfl
    | 1 => rfl
    | 2 => rfl
    | 3 => by_cases h3 : i' < 3
           · by_cases h : i' = i
             · have h2 : ¬ j' = k := fun z => hn ⟨rfl, h, z⟩
               simp only [cpic, if_pos h3]; unfold sarr; split <;> first | rfl | (exact absurd rfl h2) | (simp [cvs]; done) | (simp [cvs, Ne.symm h2]; done) | (simp; funext z; simp [cvs, h2]; done) | (simp; funext z; simp [cvs, Ne.symm h2]; done) | (simp; funext z; simp [cvs]; intro _ e; exact absurd e h2) | (simp; funext z; simp [cvs]; intro _ e; exact absurd e.symm h2)
             · simp only [cpic, if_pos h3]; unfold sarr; split <;> first | rfl | (simp [cvs, h]; done) | (simp; funext z; simp [cvs, h]; done)
           · simp [cpic, h3]
    | 4 => rfl
    | 5 => rfl
    | 6 => rfl
    | n + 7 => rfl
theorem csaa_ {ad : AD} {V : CV} {i k : Nat} {f : Nat → Int32} (hi : i < 3) (hk : k = 4 ∨ k = 5 ∨ k = 6) : pset (cpic ad V) 3 i k (.inl (0, 12, .inl f)) = cpic ad (sSAA V i k f) := by
  refine cpic_eq ?_ ?_
  · rw [cpic3 hi, sarr_i hk]; congr 5; funext q; simp [cvs]
  · intro r' i' j' hn
    match r' with
    | 0 => rfl
    | 1 => rfl
    | 2 => rfl
    | 3 => by_cases h3 : i' < 3
           · by_cases h : i' = i
             · have h2 : ¬ j' = k := fun z => hn ⟨rfl, h, z⟩
               simp only [cpic, if_pos h3]; unfold sarr; split <;> first | rfl | (exact absurd rfl h2) | (simp [cvs]; done) | (simp [cvs, Ne.symm h2]; done) | (simp; funext z; simp [cvs, h2]; done) | (simp; funext z; simp [cvs, Ne.symm h2]; done) | (simp; funext z; simp [cvs]; intro _ e; exact absurd e h2) | (simp; funext z; simp [cvs]; intro _ e; exact absurd e.symm h2)
             · simp only [cpic, if_pos h3]; unfold sarr; split <;> first | rfl | (simp [cvs, h]; done) | (simp; funext z; simp [cvs, h]; done)
           · simp [cpic, h3]
    | 4 => rfl
    | 5 => rfl
    | 6 => rfl
    | n + 7 => rfl
theorem csp_ {ad : AD} {V : CV} {i j : Nat} {r : Option Nat} (hi : i < 3) : pset (cpic ad V) 3 i 3 (.inl (4, 12, .inr (.inr (.inr (.inr (va_up (vSp V i) j r)))))) = cpic ad (sSp V i j r) := by
  refine cpic_eq ?_ ?_
  · rw [cpic3 hi]; show some _ = some _; congr 8; funext q; simp [cvs, va_up]
  · intro r' i' j' hn
    match r' with
    | 0 => rfl
    | 1 => rfl
    | 2 => rfl
    | 3 => by_cases h3 : i' < 3
           · by_cases h : i' = i
             · have h2 : ¬ j' = 3 := fun z => hn ⟨rfl, h, z⟩
               simp only [cpic, if_pos h3]; unfold sarr; split <;> first | rfl | (exact absurd rfl h2) | (simp [cvs]; done) | (simp [cvs, Ne.symm h2]; done) | (simp; funext z; simp [cvs, h2]; done) | (simp; funext z; simp [cvs, Ne.symm h2]; done) | (simp; funext z; simp [cvs]; intro _ e; exact absurd e h2) | (simp; funext z; simp [cvs]; intro _ e; exact absurd e.symm h2)
             · simp only [cpic, if_pos h3]; unfold sarr; split <;> first | rfl | (simp [cvs, h]; done) | (simp; funext z; simp [cvs, h]; done)
           · simp [cpic, h3]
    | 4 => rfl
    | 5 => rfl
    | 6 => rfl
    | n + 7 => rfl
theorem ctx_ {ad : AD} {V : CV} {i j : Nat} {r : Option Nat} (hi : i < 3) : pset (cpic ad V) 3 i 10 (.inl (6, 14, .inr (.inr (.inr (.inr (va_up (vTx V i) j r)))))) = cpic ad (sTx V i j r) := by
  refine cpic_eq ?_ ?_
  · rw [cpic3 hi]; show some _ = some _; congr 8; funext q; simp [cvs, va_up]
  · intro r' i' j' hn
    match r' with
    | 0 => rfl
    | 1 => rfl
    | 2 => rfl
    | 3 => by_cases h3 : i' < 3
           · by_cases h : i' = i
             · have h2 : ¬ j' = 10 := fun z => hn ⟨rfl, h, z⟩
               simp only [cpic, if_pos h3]; unfold sarr; split <;> first | rfl | (exact absurd rfl h2) | (simp [cvs]; done) | (simp [cvs, Ne.symm h2]; done) | (simp; funext z; simp [cvs, h2]; done) | (simp; funext z; simp [cvs, Ne.symm h2]; done) | (simp; funext z; simp [cvs]; intro _ e; exact absurd e h2) | (simp; funext z; simp [cvs]; intro _ e; exact absurd e.symm h2)
             · simp only [cpic, if_pos h3]; unfold sarr; split <;> first | rfl | (simp [cvs, h]; done) | (simp; funext z; simp [cvs, h]; done)
           · simp [cpic, h3]
    | 4 => rfl
    | 5 => rfl
    | 6 => rfl
    | n + 7 => rfl
theorem ctxa_ {ad : AD} {V : CV} {i : Nat} {f : Nat → Option Nat} (hi : i < 3) : pset (cpic ad V) 3 i 10 (.inl (6, 14, .inr (.inr (.inr (.inr (f)))))) = cpic ad (sTxA V i f) := by
  refine cpic_eq ?_ ?_
  · rw [cpic3 hi]; show some _ = some _; congr 8; funext q; simp [cvs]
  · intro r' i' j' hn
    match r' with
    | 0 => rfl
    | 1 => rfl
    | 2 => rfl
    | 3 => by_cases h3 : i' < 3
           · by_cases h : i' = i
             · have h2 : ¬ j' = 10 := fun z => hn ⟨rfl, h, z⟩
               simp only [cpic, if_pos h3]; unfold sarr; split <;> first | rfl | (exact absurd rfl h2) | (simp [cvs]; done) | (simp [cvs, Ne.symm h2]; done) | (simp; funext z; simp [cvs, h2]; done) | (simp; funext z; simp [cvs, Ne.symm h2]; done) | (simp; funext z; simp [cvs]; intro _ e; exact absurd e h2) | (simp; funext z; simp [cvs]; intro _ e; exact absurd e.symm h2)
             · simp only [cpic, if_pos h3]; unfold sarr; split <;> first | rfl | (simp [cvs, h]; done) | (simp; funext z; simp [cvs, h]; done)
           · simp [cpic, h3]
    | 4 => rfl
    | 5 => rfl
    | 6 => rfl
    | n + 7 => rfl
