/-! CLASS TABLES of the program, written by gen/tabs.py: classes by their number, fields, types, kinds -/
def gFL : List (List (String × String × String × Bool)) := [
  [("TransportPair", "tape", "[B", true), ("TransportPair", "taken", "[B", true), ("TransportPair", "taped", "I", false), ("TransportPair", "time", "I", false), ("TransportPair", "flow", "I", false), ("TransportPair", "output", "[B", true), ("TransportPair", "outputs", "I", false), ("TransportPair", "sides", "[LTransportPair$Side;", true), ("TransportPair", "lines", "[LTransportPair$Line;", true), ("TransportPair", "has", "[[Z", true)],
  [("TransportPair$Side", "side", "I", true), ("TransportPair$Side", "state", "I", false), ("TransportPair$Side", "reason", "I", false), ("TransportPair$Side", "bench", "LTransportPair$Bench;", true), ("TransportPair$Side", "seals", "[LTransportPair$Guard;", true), ("TransportPair$Side", "opens", "[LTransportPair$Guard;", true), ("TransportPair$Side", "armed", "[Z", true), ("TransportPair$Side", "greeting", "LTransportPair$Greeting;", true), ("TransportPair$Side", "crypto", "[LTransportPair$Crypto;", true), ("TransportPair$Side", "book", "LTransportPair$Book;", true), ("TransportPair$Side", "cargo", "[LTransportPair$Cargo;", true), ("TransportPair$Side", "hall", "LTransportPair$Hall;", true), ("TransportPair$Side", "names", "[B", true), ("TransportPair$Side", "named", "Z", false), ("TransportPair$Side", "validated", "Z", false), ("TransportPair$Side", "doneDue", "Z", false), ("TransportPair$Side", "doneArrived", "Z", false), ("TransportPair$Side", "answerDue", "Z", false), ("TransportPair$Side", "closeDue", "Z", false), ("TransportPair$Side", "answer", "J", false), ("TransportPair$Side", "came", "I", false), ("TransportPair$Side", "went", "I", false), ("TransportPair$Side", "closeAt", "I", false), ("TransportPair$Side", "closeCode", "I", false), ("TransportPair$Side", "closeKind", "I", false), ("TransportPair$Side", "closing", "I", false), ("TransportPair$Side", "quietSince", "I", false), ("TransportPair$Side", "told", "I", false), ("TransportPair$Side", "firstSize", "I", false), ("TransportPair$Side", "framesAt", "I", false), ("TransportPair$Side", "number", "J", false), ("TransportPair$Side", "stirred", "Z", false), ("TransportPair$Side", "probes", "[I", true), ("TransportPair$Side", "parameters", "[I", true), ("TransportPair$Side", "theirs", "LTransportPair$Parameters;", true), ("TransportPair$Side", "in", "LTransportPair$Bytes;", true), ("TransportPair$Side", "out", "LTransportPair$Bytes;", true), ("TransportPair$Side", "header", "LTransportPair$Header;", true), ("TransportPair$Side", "frame", "LTransportPair$Frame;", true), ("TransportPair$Side", "work", "[B", true), ("TransportPair$Side", "raw", "[B", true), ("TransportPair$Side", "rawSize", "I", false), ("TransportPair$Side", "drafts", "[[B", true), ("TransportPair$Side", "sizes", "[I", true), ("TransportPair$Side", "elicits", "[Z", true), ("TransportPair$Side", "pads", "[Z", true), ("TransportPair$Side", "drafted", "[Z", true)],
  [("TransportPair$Bench", "stretch", "LTransportPair$Stretch;", true), ("TransportPair$Bench", "stream", "LTransportPair$Keystream;", true), ("TransportPair$Bench", "tally", "LTransportPair$Tally;", true), ("TransportPair$Bench", "none", "[B", true), ("TransportPair$Bench", "nonce", "[B", true), ("TransportPair$Bench", "counts", "[B", true), ("TransportPair$Bench", "tag", "[B", true)],
  [("TransportPair$Stretch", "mac", "LTransportPair$Mac;", true), ("TransportPair$Stretch", "piece", "[B", true), ("TransportPair$Stretch", "info", "[B", true), ("TransportPair$Stretch", "one", "[B", true)],
  [("TransportPair$Mac", "inner", "LTransportPair$Hash;", true), ("TransportPair$Mac", "outer", "LTransportPair$Hash;", true), ("TransportPair$Mac", "pad", "[B", true), ("TransportPair$Mac", "digest", "[B", true)],
  [("TransportPair$Hash", "sum", "[I", true), ("TransportPair$Hash", "words", "[I", true), ("TransportPair$Hash", "block", "[B", true), ("TransportPair$Hash", "used", "I", false), ("TransportPair$Hash", "count", "J", false)],
  [("TransportPair$Keystream", "first", "[I", true), ("TransportPair$Keystream", "x", "[I", true), ("TransportPair$Keystream", "block", "[B", true)],
  [("TransportPair$Tally", "sum", "[J", true), ("TransportPair$Tally", "factor", "[J", true), ("TransportPair$Tally", "product", "[J", true), ("TransportPair$Tally", "piece", "[B", true), ("TransportPair$Tally", "used", "I", false), ("TransportPair$Tally", "low", "J", false), ("TransportPair$Tally", "high", "J", false)],
  [("TransportPair$Guard", "secret", "[B", true), ("TransportPair$Guard", "key", "[B", true), ("TransportPair$Guard", "iv", "[B", true), ("TransportPair$Guard", "hide", "[B", true), ("TransportPair$Guard", "armed", "Z", false), ("TransportPair$Guard", "phase", "I", false)],
  [("TransportPair$Crypto", "states", "[B", true), ("TransportPair$Crypto", "sent", "I", false), ("TransportPair$Crypto", "came", "[B", true), ("TransportPair$Crypto", "has", "[Z", true), ("TransportPair$Crypto", "ready", "I", false)],
  [("TransportPair$Book", "spaces", "[LTransportPair$Space;", true), ("TransportPair$Book", "way", "LTransportPair$Trip;", true), ("TransportPair$Book", "window", "LTransportPair$Window;", true), ("TransportPair$Book", "time", "I", false), ("TransportPair$Book", "backoff", "I", false), ("TransportPair$Book", "sentLast", "I", false), ("TransportPair$Book", "confirmed", "Z", false), ("TransportPair$Book", "anxious", "Z", false), ("TransportPair$Book", "lows", "[J", true), ("TransportPair$Book", "highs", "[J", true), ("TransportPair$Book", "spans", "I", false)],
  [("TransportPair$Trip", "smooth", "I", false), ("TransportPair$Trip", "vary", "I", false), ("TransportPair$Trip", "latest", "I", false), ("TransportPair$Trip", "least", "I", false), ("TransportPair$Trip", "first", "I", false)],
  [("TransportPair$Window", "size", "I", false), ("TransportPair$Window", "threshold", "I", false), ("TransportPair$Window", "recovery", "I", false), ("TransportPair$Window", "inFlight", "I", false)],
  [("TransportPair$Space", "times", "[I", false), ("TransportPair$Space", "sizes", "[S", false), ("TransportPair$Space", "marks", "[B", false), ("TransportPair$Space", "sent", "I", false), ("TransportPair$Space", "out", "I", false), ("TransportPair$Space", "eliciting", "I", false), ("TransportPair$Space", "greatest", "I", false), ("TransportPair$Space", "latest", "I", false), ("TransportPair$Space", "lossTime", "I", false), ("TransportPair$Space", "firstOut", "I", false), ("TransportPair$Space", "discarded", "Z", false), ("TransportPair$Space", "done", "LTransportPair$Queue;", true), ("TransportPair$Space", "lost", "LTransportPair$Queue;", true), ("TransportPair$Space", "came", "LTransportPair$Ranges;", true), ("TransportPair$Space", "pending", "I", false), ("TransportPair$Space", "since", "I", false), ("TransportPair$Space", "arrived", "I", false), ("TransportPair$Space", "hurry", "Z", false)],
  [("TransportPair$Queue", "row", "[I", false), ("TransportPair$Queue", "first", "I", false), ("TransportPair$Queue", "end", "I", false)],
  [("TransportPair$Ranges", "lows", "[J", true), ("TransportPair$Ranges", "highs", "[J", true), ("TransportPair$Ranges", "many", "I", false), ("TransportPair$Ranges", "floor", "J", false)],
  [("TransportPair$Cargo", "begins", "[I", false), ("TransportPair$Cargo", "sizes", "[I", false), ("TransportPair$Cargo", "kinds", "[B", false), ("TransportPair$Cargo", "as", "[J", false), ("TransportPair$Cargo", "bs", "[J", false), ("TransportPair$Cargo", "cs", "[J", false), ("TransportPair$Cargo", "packets", "I", false), ("TransportPair$Cargo", "many", "I", false)],
  [("TransportPair$Parameters", "values", "[J", true), ("TransportPair$Parameters", "there", "[Z", true), ("TransportPair$Parameters", "places", "[I", true), ("TransportPair$Parameters", "fault", "I", false), ("TransportPair$Parameters", "wrong", "I", false)],
  [("TransportPair$Bytes", "row", "[B", false), ("TransportPair$Bytes", "at", "I", false), ("TransportPair$Bytes", "end", "I", false), ("TransportPair$Bytes", "bad", "Z", false)],
  [("TransportPair$Header", "kind", "I", false), ("TransportPair$Header", "bits", "I", false), ("TransportPair$Header", "fault", "I", false), ("TransportPair$Header", "from", "I", false), ("TransportPair$Header", "number", "I", false), ("TransportPair$Header", "end", "I", false), ("TransportPair$Header", "version", "J", false), ("TransportPair$Header", "to", "I", false), ("TransportPair$Header", "toSize", "I", false), ("TransportPair$Header", "by", "I", false), ("TransportPair$Header", "bySize", "I", false), ("TransportPair$Header", "token", "I", false), ("TransportPair$Header", "tokenSize", "I", false)],
  [("TransportPair$Frame", "kind", "I", false), ("TransportPair$Frame", "fault", "I", false), ("TransportPair$Frame", "a", "J", false), ("TransportPair$Frame", "b", "J", false), ("TransportPair$Frame", "c", "J", false), ("TransportPair$Frame", "d", "J", false), ("TransportPair$Frame", "counts", "[J", true), ("TransportPair$Frame", "row", "[B", false), ("TransportPair$Frame", "from", "I", false), ("TransportPair$Frame", "size", "I", false), ("TransportPair$Frame", "secret", "I", false), ("TransportPair$Frame", "many", "I", false), ("TransportPair$Frame", "lows", "[J", false), ("TransportPair$Frame", "highs", "[J", false)],
  [("TransportPair$Greeting", "side", "I", true), ("TransportPair$Greeting", "key", "[B", true), ("TransportPair$Greeting", "random", "[B", true), ("TransportPair$Greeting", "own", "[B", true), ("TransportPair$Greeting", "ownSize", "I", false), ("TransportPair$Greeting", "hash", "LTransportPair$Hash;", true), ("TransportPair$Greeting", "stretch", "LTransportPair$Stretch;", true), ("TransportPair$Greeting", "told", "LTransportPair$Row;", true), ("TransportPair$Greeting", "sent", "[LTransportPair$Row;", true), ("TransportPair$Greeting", "waiting", "[LTransportPair$Row;", true), ("TransportPair$Greeting", "secrets", "[[B", true), ("TransportPair$Greeting", "ready", "[Z", true), ("TransportPair$Greeting", "greet", "[B", true), ("TransportPair$Greeting", "talk", "[B", true), ("TransportPair$Greeting", "digest", "[B", true), ("TransportPair$Greeting", "proof", "[B", true), ("TransportPair$Greeting", "none", "[B", true), ("TransportPair$Greeting", "theirs", "[B", true), ("TransportPair$Greeting", "theirSize", "I", false), ("TransportPair$Greeting", "fault", "I", false), ("TransportPair$Greeting", "waits", "I", false), ("TransportPair$Greeting", "begun", "Z", false), ("TransportPair$Greeting", "finished", "Z", false)],
  [("TransportPair$Row", "bytes", "[B", true), ("TransportPair$Row", "size", "I", false)],
  [("TransportPair$Hall", "side", "I", true), ("TransportPair$Hall", "sendings", "[LTransportPair$Sending;", true), ("TransportPair$Hall", "receivings", "[LTransportPair$Receiving;", true), ("TransportPair$Hall", "ways", "[LTransportPair$Way;", true), ("TransportPair$Hall", "grants", "[I", true), ("TransportPair$Hall", "limits", "[J", true), ("TransportPair$Hall", "spans", "LTransportPair$Spans;", true), ("TransportPair$Hall", "store", "LTransportPair$Store;", true), ("TransportPair$Hall", "blocks", "LTransportPair$Blocks;", true), ("TransportPair$Hall", "limitAll", "J", false), ("TransportPair$Hall", "blockedAt", "J", false), ("TransportPair$Hall", "sentAll", "I", false), ("TransportPair$Hall", "receivedAll", "I", false), ("TransportPair$Hall", "consumedAll", "I", false), ("TransportPair$Hall", "grantAll", "I", false), ("TransportPair$Hall", "lastStream", "I", false), ("TransportPair$Hall", "tellsAll", "Z", false), ("TransportPair$Hall", "kind", "I", false), ("TransportPair$Hall", "size", "I", false), ("TransportPair$Hall", "a", "J", false), ("TransportPair$Hall", "b", "J", false), ("TransportPair$Hall", "c", "J", false), ("TransportPair$Hall", "row", "[B", true)],
  [("TransportPair$Way", "opened", "I", false), ("TransportPair$Way", "there", "I", false), ("TransportPair$Way", "granted", "I", false), ("TransportPair$Way", "limit", "J", false), ("TransportPair$Way", "refusedAt", "J", false), ("TransportPair$Way", "toldAt", "J", false), ("TransportPair$Way", "tells", "Z", false)],
  [("TransportPair$Spans", "from", "[I", false), ("TransportPair$Spans", "to", "[I", false), ("TransportPair$Spans", "next", "[I", false), ("TransportPair$Spans", "made", "I", false), ("TransportPair$Spans", "free", "I", false)],
  [("TransportPair$Store", "bytes", "[B", true), ("TransportPair$Store", "used", "I", false), ("TransportPair$Store", "at", "[I", false), ("TransportPair$Store", "size", "[I", false), ("TransportPair$Store", "next", "[I", false), ("TransportPair$Store", "pieces", "I", false)],
  [("TransportPair$Blocks", "bytes", "[B", false), ("TransportPair$Blocks", "marks", "[J", false), ("TransportPair$Blocks", "index", "[I", false), ("TransportPair$Blocks", "next", "[I", false), ("TransportPair$Blocks", "made", "I", false), ("TransportPair$Blocks", "free", "I", false)],
  [("TransportPair$Line", "rows", "[[B", true), ("TransportPair$Line", "sizes", "[I", true), ("TransportPair$Line", "times", "[I", true), ("TransportPair$Line", "many", "I", false), ("TransportPair$Line", "sent", "I", false), ("TransportPair$Line", "lost", "I", false)],
  [],
  [],
  [],
  [("TransportPair$Sending", "state", "I", false), ("TransportPair$Sending", "written", "I", false), ("TransportPair$Sending", "sent", "I", false), ("TransportPair$Sending", "end", "I", false), ("TransportPair$Sending", "first", "I", false), ("TransportPair$Sending", "last", "I", false), ("TransportPair$Sending", "lost", "I", false), ("TransportPair$Sending", "here", "I", false), ("TransportPair$Sending", "limit", "J", false), ("TransportPair$Sending", "code", "J", false), ("TransportPair$Sending", "blockedAt", "J", false), ("TransportPair$Sending", "resets", "Z", false)],
  [("TransportPair$Receiving", "window", "I", true), ("TransportPair$Receiving", "state", "I", false), ("TransportPair$Receiving", "read", "I", false), ("TransportPair$Receiving", "ready", "I", false), ("TransportPair$Receiving", "highest", "I", false), ("TransportPair$Receiving", "size", "I", false), ("TransportPair$Receiving", "grant", "I", false), ("TransportPair$Receiving", "first", "I", false), ("TransportPair$Receiving", "code", "J", false), ("TransportPair$Receiving", "stopCode", "J", false), ("TransportPair$Receiving", "tells", "Z", false), ("TransportPair$Receiving", "stops", "Z", false), ("TransportPair$Receiving", "stopped", "Z", false)],
  [],
  [("TransportPairModel", "thrown", "I", false), ("TransportPairModel", "tape", "[B", true), ("TransportPairModel", "taped", "I", false), ("TransportPairModel", "out", "[I", true), ("TransportPairModel", "outs", "I", false), ("TransportPairModel", "seals", "LTransportPairModel$Seals;", true), ("TransportPairModel", "streams", "LTransportPairModel$Streams;", true), ("TransportPairModel", "sides", "[LTransportPairModel$Side;", true), ("TransportPairModel", "time", "I", false), ("TransportPairModel", "flow", "I", false), ("TransportPairModel", "many", "[I", true), ("TransportPairModel", "order", "[I", true), ("TransportPairModel", "used", "[Z", true), ("TransportPairModel", "size", "[I", true), ("TransportPairModel", "when", "[I", true), ("TransportPairModel", "line", "[B", true), ("TransportPairModel", "allSent", "[I", true), ("TransportPairModel", "allLost", "[I", true), ("TransportPairModel", "row", "[I", true), ("TransportPairModel", "header", "[I", true), ("TransportPairModel", "firstTo", "[I", true), ("TransportPairModel", "firstToSize", "I", false), ("TransportPairModel", "wire", "LTransportPairModel$Wire;", true)],
  [("TransportPairModel$Seals", "begin", "[J", true), ("TransportPairModel$Seals", "each", "[J", true), ("TransportPairModel$Seals", "root", "[I", true), ("TransportPairModel$Seals", "power", "[I", true), ("TransportPairModel$Seals", "work", "[I", true), ("TransportPairModel$Seals", "w", "[J", true), ("TransportPairModel$Seals", "h", "[J", true), ("TransportPairModel$Seals", "state", "[J", true), ("TransportPairModel$Seals", "sum", "[I", true), ("TransportPairModel$Seals", "pad", "[I", true), ("TransportPairModel$Seals", "text", "[I", true), ("TransportPairModel$Seals", "texts", "I", false), ("TransportPairModel$Seals", "info", "[I", true), ("TransportPairModel$Seals", "infos", "I", false), ("TransportPairModel$Seals", "made", "[I", true), ("TransportPairModel$Seals", "blockKey", "[I", true), ("TransportPairModel$Seals", "nonce", "[I", true), ("TransportPairModel$Seals", "x", "[J", true), ("TransportPairModel$Seals", "first", "[J", true), ("TransportPairModel$Seals", "block", "[I", true), ("TransportPairModel$Seals", "a", "[I", true), ("TransportPairModel$Seals", "\x72", "[I", true), ("TransportPairModel$Seals", "product", "[I", true), ("TransportPairModel$Seals", "tag", "[I", true), ("TransportPairModel$Seals", "sealed", "[I", true)],
  [("TransportPairModel$Streams", "grants", "[J", true), ("TransportPairModel$Streams", "told", "[J", true), ("TransportPairModel$Streams", "limits", "[J", true), ("TransportPairModel$Streams", "toldBlocked", "[J", true), ("TransportPairModel$Streams", "opened", "[I", true), ("TransportPairModel$Streams", "theirs", "[I", true), ("TransportPairModel$Streams", "granted", "[I", true), ("TransportPairModel$Streams", "tellStreams", "[Z", true), ("TransportPairModel$Streams", "refused", "[Z", true), ("TransportPairModel$Streams", "dataGrant", "[J", true), ("TransportPairModel$Streams", "tellData", "[Z", true), ("TransportPairModel$Streams", "lastStream", "[I", true), ("TransportPairModel$Streams", "there", "[Z", true), ("TransportPairModel$Streams", "limit", "[J", true), ("TransportPairModel$Streams", "finished", "[Z", true), ("TransportPairModel$Streams", "end", "[I", true), ("TransportPairModel$Streams", "resets", "[I", true), ("TransportPairModel$Streams", "tellReset", "[Z", true), ("TransportPairModel$Streams", "code", "[J", true), ("TransportPairModel$Streams", "toldLimit", "[J", true), ("TransportPairModel$Streams", "firstByte", "[I", true), ("TransportPairModel$Streams", "lastByte", "[I", true), ("TransportPairModel$Streams", "newByte", "[I", true), ("TransportPairModel$Streams", "written", "[I", true), ("TransportPairModel$Streams", "sent", "[I", true), ("TransportPairModel$Streams", "here", "[I", true), ("TransportPairModel$Streams", "lost", "[I", true), ("TransportPairModel$Streams", "highest", "[J", true), ("TransportPairModel$Streams", "size", "[J", true), ("TransportPairModel$Streams", "read", "[I", true), ("TransportPairModel$Streams", "ready", "[I", true), ("TransportPairModel$Streams", "wasReset", "[Z", true), ("TransportPairModel$Streams", "theirCode", "[J", true), ("TransportPairModel$Streams", "grant", "[J", true), ("TransportPairModel$Streams", "tellGrant", "[Z", true), ("TransportPairModel$Streams", "stopped", "[Z", true), ("TransportPairModel$Streams", "tellStop", "[Z", true), ("TransportPairModel$Streams", "stopCode", "[J", true), ("TransportPairModel$Streams", "over", "[Z", true), ("TransportPairModel$Streams", "firstPiece", "[I", true), ("TransportPairModel$Streams", "total", "[I", true), ("TransportPairModel$Streams", "value", "[B", true), ("TransportPairModel$Streams", "mark", "[B", true), ("TransportPairModel$Streams", "next", "[I", true), ("TransportPairModel$Streams", "allSent", "[I", true), ("TransportPairModel$Streams", "pieces", "[I", true), ("TransportPairModel$Streams", "pieceNumber", "[I", true), ("TransportPairModel$Streams", "pieceNext", "[I", true), ("TransportPairModel$Streams", "has", "[J", true), ("TransportPairModel$Streams", "came", "[B", true), ("TransportPairModel$Streams", "kind", "I", false), ("TransportPairModel$Streams", "fa", "J", false), ("TransportPairModel$Streams", "fb", "J", false), ("TransportPairModel$Streams", "fc", "J", false), ("TransportPairModel$Streams", "fSize", "I", false), ("TransportPairModel$Streams", "fData", "[I", true)],
  [("TransportPairModel$Side", "number", "I", true), ("TransportPairModel$Side", "seals", "LTransportPairModel$Seals;", true), ("TransportPairModel$Side", "streams", "LTransportPairModel$Streams;", true), ("TransportPairModel$Side", "greet", "LTransportPairModel$Greet;", true), ("TransportPairModel$Side", "book", "LTransportPairModel$Book;", true), ("TransportPairModel$Side", "parameters", "[J", true), ("TransportPairModel$Side", "keyed", "Z", false), ("TransportPairModel$Side", "drawn", "Z", false), ("TransportPairModel$Side", "state", "I", false), ("TransportPairModel$Side", "reason", "I", false), ("TransportPairModel$Side", "validated", "Z", false), ("TransportPairModel$Side", "came", "I", false), ("TransportPairModel$Side", "sent", "I", false), ("TransportPairModel$Side", "to", "[I", true), ("TransportPairModel$Side", "toSize", "I", false), ("TransportPairModel$Side", "knowsTo", "Z", false), ("TransportPairModel$Side", "firstName", "[I", true), ("TransportPairModel$Side", "named", "Z", false), ("TransportPairModel$Side", "guards", "[I", true), ("TransportPairModel$Side", "armed", "[Z", true), ("TransportPairModel$Side", "scratch", "[I", true), ("TransportPairModel$Side", "wire", "LTransportPairModel$Wire;", true), ("TransportPairModel$Side", "theirs", "[J", true), ("TransportPairModel$Side", "theirNames", "[I", true), ("TransportPairModel$Side", "known", "Z", false), ("TransportPairModel$Side", "crypto", "[I", true), ("TransportPairModel$Side", "hasCrypto", "[Z", true), ("TransportPairModel$Side", "taken", "[I", true), ("TransportPairModel$Side", "cryptoMark", "[B", true), ("TransportPairModel$Side", "cryptoSent", "[I", true), ("TransportPairModel$Side", "doneDue", "Z", false), ("TransportPairModel$Side", "doneHere", "Z", false), ("TransportPairModel$Side", "responseDue", "Z", false), ("TransportPairModel$Side", "response", "J", false), ("TransportPairModel$Side", "probes", "[I", true), ("TransportPairModel$Side", "over", "I", false), ("TransportPairModel$Side", "closeDue", "Z", false), ("TransportPairModel$Side", "closeKind", "I", false), ("TransportPairModel$Side", "closeCode", "I", false), ("TransportPairModel$Side", "closedCame", "I", false), ("TransportPairModel$Side", "quietFrom", "I", false), ("TransportPairModel$Side", "elicited", "Z", false), ("TransportPairModel$Side", "raw", "[I", true), ("TransportPairModel$Side", "rawSize", "I", false), ("TransportPairModel$Side", "cargoFrom", "[I", true), ("TransportPairModel$Side", "cargo", "[LTransportPairModel$Cargo;", true), ("TransportPairModel$Side", "copy", "[I", true), ("TransportPairModel$Side", "drafts", "[LTransportPairModel$Draft;", true), ("TransportPairModel$Side", "eliciting", "[Z", true), ("TransportPairModel$Side", "padded", "[Z", true), ("TransportPairModel$Side", "acks", "[Z", true), ("TransportPairModel$Side", "closed", "Z", false), ("TransportPairModel$Side", "datagram", "LTransportPairModel$Draft;", true)],
  [("TransportPairModel$Book", "time", "I", false), ("TransportPairModel$Book", "confirmed", "Z", false), ("TransportPairModel$Book", "anxious", "Z", false), ("TransportPairModel$Book", "sent", "[I", true), ("TransportPairModel$Book", "size", "[I", true), ("TransportPairModel$Book", "when", "[I", true), ("TransportPairModel$Book", "state", "[B", true), ("TransportPairModel$Book", "eliciting", "[Z", true), ("TransportPairModel$Book", "counted", "[Z", true), ("TransportPairModel$Book", "filling", "[Z", true), ("TransportPairModel$Book", "firstOut", "[I", true), ("TransportPairModel$Book", "discarded", "[Z", true), ("TransportPairModel$Book", "top", "[I", true), ("TransportPairModel$Book", "lossTime", "[I", true), ("TransportPairModel$Book", "latestSent", "I", false), ("TransportPairModel$Book", "found", "[S", true), ("TransportPairModel$Book", "founds", "[I", true), ("TransportPairModel$Book", "told", "[I", true), ("TransportPairModel$Book", "smooth", "I", false), ("TransportPairModel$Book", "vary", "I", false), ("TransportPairModel$Book", "latest", "I", false), ("TransportPairModel$Book", "least", "I", false), ("TransportPairModel$Book", "firstSample", "I", false), ("TransportPairModel$Book", "backoff", "I", false), ("TransportPairModel$Book", "window", "I", false), ("TransportPairModel$Book", "threshold", "I", false), ("TransportPairModel$Book", "recovery", "I", false), ("TransportPairModel$Book", "spans", "I", false), ("TransportPairModel$Book", "spanLow", "[J", true), ("TransportPairModel$Book", "spanHigh", "[J", true), ("TransportPairModel$Book", "ranges", "[I", true), ("TransportPairModel$Book", "low", "[J", true), ("TransportPairModel$Book", "high", "[J", true), ("TransportPairModel$Book", "floor", "[J", true), ("TransportPairModel$Book", "greatestAt", "[I", true), ("TransportPairModel$Book", "pending", "[I", true), ("TransportPairModel$Book", "pendingFrom", "[I", true), ("TransportPairModel$Book", "odd", "[Z", true)],
  [("TransportPairModel$Wire", "row", "[I", false), ("TransportPairModel$Wire", "at", "I", false), ("TransportPairModel$Wire", "end", "I", false), ("TransportPairModel$Wire", "over", "Z", false), ("TransportPairModel$Wire", "kind", "I", false), ("TransportPairModel$Wire", "field", "[J", true), ("TransportPairModel$Wire", "dataAt", "I", false), ("TransportPairModel$Wire", "dataSize", "I", false), ("TransportPairModel$Wire", "ranges", "I", false), ("TransportPairModel$Wire", "rangesAt", "I", false)],
  [("TransportPairModel$Cargo", "many", "I", false), ("TransportPairModel$Cargo", "kind", "[B", false), ("TransportPairModel$Cargo", "size", "[I", false), ("TransportPairModel$Cargo", "a", "[J", false), ("TransportPairModel$Cargo", "b", "[J", false), ("TransportPairModel$Cargo", "c", "[B", false)],
  [("TransportPairModel$Draft", "row", "[I", true), ("TransportPairModel$Draft", "size", "I", false)],
  [("TransportPairModel$Greet", "side", "I", true), ("TransportPairModel$Greet", "seals", "LTransportPairModel$Seals;", true), ("TransportPairModel$Greet", "key", "[I", true), ("TransportPairModel$Greet", "random", "[I", true), ("TransportPairModel$Greet", "own", "[I", true), ("TransportPairModel$Greet", "ownSize", "I", false), ("TransportPairModel$Greet", "waits", "I", false), ("TransportPairModel$Greet", "finished", "Z", false), ("TransportPairModel$Greet", "fault", "I", false), ("TransportPairModel$Greet", "sent", "[I", true), ("TransportPairModel$Greet", "sentSize", "[I", true), ("TransportPairModel$Greet", "waiting", "[I", true), ("TransportPairModel$Greet", "waitingSize", "[I", true), ("TransportPairModel$Greet", "theirs", "[I", true), ("TransportPairModel$Greet", "theirsSize", "I", false), ("TransportPairModel$Greet", "talk", "[I", true), ("TransportPairModel$Greet", "talkSize", "I", false), ("TransportPairModel$Greet", "secrets", "[I", true), ("TransportPairModel$Greet", "level", "I", false), ("TransportPairModel$Greet", "greet", "[I", true), ("TransportPairModel$Greet", "digest", "[I", true), ("TransportPairModel$Greet", "proof", "[I", true), ("TransportPairModel$Greet", "base", "[I", true)]]
def gF (c k : Nat) : String × String × String × Bool := (gFL.getD c []).getD k ("", "", "", false)
def gCL : List vw_C := [("TransportPair", gF 0, 10), ("TransportPair$Side", gF 1, 47), ("TransportPair$Bench", gF 2, 7), ("TransportPair$Stretch", gF 3, 4), ("TransportPair$Mac", gF 4, 4), ("TransportPair$Hash", gF 5, 5), ("TransportPair$Keystream", gF 6, 3), ("TransportPair$Tally", gF 7, 7), ("TransportPair$Guard", gF 8, 6), ("TransportPair$Crypto", gF 9, 5), ("TransportPair$Book", gF 10, 11), ("TransportPair$Trip", gF 11, 5), ("TransportPair$Window", gF 12, 4), ("TransportPair$Space", gF 13, 18), ("TransportPair$Queue", gF 14, 3), ("TransportPair$Ranges", gF 15, 4), ("TransportPair$Cargo", gF 16, 8), ("TransportPair$Parameters", gF 17, 5), ("TransportPair$Bytes", gF 18, 4), ("TransportPair$Header", gF 19, 13), ("TransportPair$Frame", gF 20, 14), ("TransportPair$Greeting", gF 21, 23), ("TransportPair$Row", gF 22, 2), ("TransportPair$Hall", gF 23, 23), ("TransportPair$Way", gF 24, 7), ("TransportPair$Spans", gF 25, 5), ("TransportPair$Store", gF 26, 6), ("TransportPair$Blocks", gF 27, 6), ("TransportPair$Line", gF 28, 6), ("java/lang/IllegalStateException", gF 29, 0), ("java/lang/Throwable", gF 30, 0), ("java/lang/IllegalArgumentException", gF 31, 0), ("TransportPair$Sending", gF 32, 12), ("TransportPair$Receiving", gF 33, 13), ("java/util/NoSuchElementException", gF 34, 0), ("TransportPairModel", gF 35, 23), ("TransportPairModel$Seals", gF 36, 25), ("TransportPairModel$Streams", gF 37, 56), ("TransportPairModel$Side", gF 38, 53), ("TransportPairModel$Book", gF 39, 38), ("TransportPairModel$Wire", gF 40, 10), ("TransportPairModel$Cargo", gF 41, 6), ("TransportPairModel$Draft", gF 42, 2), ("TransportPairModel$Greet", gF 43, 23)]
def gTyL : List (List FieldType) := [[.array (.byte), .array (.byte), .int, .int, .int, .array (.byte), .int, .array (.object "TransportPair$Side"), .array (.object "TransportPair$Line"), .array (.array (.boolean))],
  [.int, .int, .int, .object "TransportPair$Bench", .array (.object "TransportPair$Guard"), .array (.object "TransportPair$Guard"), .array (.boolean), .object "TransportPair$Greeting", .array (.object "TransportPair$Crypto"), .object "TransportPair$Book", .array (.object "TransportPair$Cargo"), .object "TransportPair$Hall", .array (.byte), .boolean, .boolean, .boolean, .boolean, .boolean, .boolean, .long, .int, .int, .int, .int, .int, .int, .int, .int, .int, .int, .long, .boolean, .array (.int), .array (.int), .object "TransportPair$Parameters", .object "TransportPair$Bytes", .object "TransportPair$Bytes", .object "TransportPair$Header", .object "TransportPair$Frame", .array (.byte), .array (.byte), .int, .array (.array (.byte)), .array (.int), .array (.boolean), .array (.boolean), .array (.boolean)],
  [.object "TransportPair$Stretch", .object "TransportPair$Keystream", .object "TransportPair$Tally", .array (.byte), .array (.byte), .array (.byte), .array (.byte)],
  [.object "TransportPair$Mac", .array (.byte), .array (.byte), .array (.byte)],
  [.object "TransportPair$Hash", .object "TransportPair$Hash", .array (.byte), .array (.byte)],
  [.array (.int), .array (.int), .array (.byte), .int, .long],
  [.array (.int), .array (.int), .array (.byte)],
  [.array (.long), .array (.long), .array (.long), .array (.byte), .int, .long, .long],
  [.array (.byte), .array (.byte), .array (.byte), .array (.byte), .boolean, .int],
  [.array (.byte), .int, .array (.byte), .array (.boolean), .int],
  [.array (.object "TransportPair$Space"), .object "TransportPair$Trip", .object "TransportPair$Window", .int, .int, .int, .boolean, .boolean, .array (.long), .array (.long), .int],
  [.int, .int, .int, .int, .int],
  [.int, .int, .int, .int],
  [.array (.int), .array (.short), .array (.byte), .int, .int, .int, .int, .int, .int, .int, .boolean, .object "TransportPair$Queue", .object "TransportPair$Queue", .object "TransportPair$Ranges", .int, .int, .int, .boolean],
  [.array (.int), .int, .int],
  [.array (.long), .array (.long), .int, .long],
  [.array (.int), .array (.int), .array (.byte), .array (.long), .array (.long), .array (.long), .int, .int],
  [.array (.long), .array (.boolean), .array (.int), .int, .int],
  [.array (.byte), .int, .int, .boolean],
  [.int, .int, .int, .int, .int, .int, .long, .int, .int, .int, .int, .int, .int],
  [.int, .int, .long, .long, .long, .long, .array (.long), .array (.byte), .int, .int, .int, .int, .array (.long), .array (.long)],
  [.int, .array (.byte), .array (.byte), .array (.byte), .int, .object "TransportPair$Hash", .object "TransportPair$Stretch", .object "TransportPair$Row", .array (.object "TransportPair$Row"), .array (.object "TransportPair$Row"), .array (.array (.byte)), .array (.boolean), .array (.byte), .array (.byte), .array (.byte), .array (.byte), .array (.byte), .array (.byte), .int, .int, .int, .boolean, .boolean],
  [.array (.byte), .int],
  [.int, .array (.object "TransportPair$Sending"), .array (.object "TransportPair$Receiving"), .array (.object "TransportPair$Way"), .array (.int), .array (.long), .object "TransportPair$Spans", .object "TransportPair$Store", .object "TransportPair$Blocks", .long, .long, .int, .int, .int, .int, .int, .boolean, .int, .int, .long, .long, .long, .array (.byte)],
  [.int, .int, .int, .long, .long, .long, .boolean],
  [.array (.int), .array (.int), .array (.int), .int, .int],
  [.array (.byte), .int, .array (.int), .array (.int), .array (.int), .int],
  [.array (.byte), .array (.long), .array (.int), .array (.int), .int, .int],
  [.array (.array (.byte)), .array (.int), .array (.int), .int, .int, .int],
  [],
  [],
  [],
  [.int, .int, .int, .int, .int, .int, .int, .int, .long, .long, .long, .boolean],
  [.int, .int, .int, .int, .int, .int, .int, .int, .long, .long, .boolean, .boolean, .boolean],
  [],
  [.int, .array (.byte), .int, .array (.int), .int, .object "TransportPairModel$Seals", .object "TransportPairModel$Streams", .array (.object "TransportPairModel$Side"), .int, .int, .array (.int), .array (.int), .array (.boolean), .array (.int), .array (.int), .array (.byte), .array (.int), .array (.int), .array (.int), .array (.int), .array (.int), .int, .object "TransportPairModel$Wire"],
  [.array (.long), .array (.long), .array (.int), .array (.int), .array (.int), .array (.long), .array (.long), .array (.long), .array (.int), .array (.int), .array (.int), .int, .array (.int), .int, .array (.int), .array (.int), .array (.int), .array (.long), .array (.long), .array (.int), .array (.int), .array (.int), .array (.int), .array (.int), .array (.int)],
  [.array (.long), .array (.long), .array (.long), .array (.long), .array (.int), .array (.int), .array (.int), .array (.boolean), .array (.boolean), .array (.long), .array (.boolean), .array (.int), .array (.boolean), .array (.long), .array (.boolean), .array (.int), .array (.int), .array (.boolean), .array (.long), .array (.long), .array (.int), .array (.int), .array (.int), .array (.int), .array (.int), .array (.int), .array (.int), .array (.long), .array (.long), .array (.int), .array (.int), .array (.boolean), .array (.long), .array (.long), .array (.boolean), .array (.boolean), .array (.boolean), .array (.long), .array (.boolean), .array (.int), .array (.int), .array (.byte), .array (.byte), .array (.int), .array (.int), .array (.int), .array (.int), .array (.int), .array (.long), .array (.byte), .int, .long, .long, .long, .int, .array (.int)],
  [.int, .object "TransportPairModel$Seals", .object "TransportPairModel$Streams", .object "TransportPairModel$Greet", .object "TransportPairModel$Book", .array (.long), .boolean, .boolean, .int, .int, .boolean, .int, .int, .array (.int), .int, .boolean, .array (.int), .boolean, .array (.int), .array (.boolean), .array (.int), .object "TransportPairModel$Wire", .array (.long), .array (.int), .boolean, .array (.int), .array (.boolean), .array (.int), .array (.byte), .array (.int), .boolean, .boolean, .boolean, .long, .array (.int), .int, .boolean, .int, .int, .int, .int, .boolean, .array (.int), .int, .array (.int), .array (.object "TransportPairModel$Cargo"), .array (.int), .array (.object "TransportPairModel$Draft"), .array (.boolean), .array (.boolean), .array (.boolean), .boolean, .object "TransportPairModel$Draft"],
  [.int, .boolean, .boolean, .array (.int), .array (.int), .array (.int), .array (.byte), .array (.boolean), .array (.boolean), .array (.boolean), .array (.int), .array (.boolean), .array (.int), .array (.int), .int, .array (.short), .array (.int), .array (.int), .int, .int, .int, .int, .int, .int, .int, .int, .int, .int, .array (.long), .array (.long), .array (.int), .array (.long), .array (.long), .array (.long), .array (.int), .array (.int), .array (.int), .array (.boolean)],
  [.array (.int), .int, .int, .boolean, .int, .array (.long), .int, .int, .int, .int],
  [.int, .array (.byte), .array (.int), .array (.long), .array (.long), .array (.byte)],
  [.array (.int), .int],
  [.int, .object "TransportPairModel$Seals", .array (.int), .array (.int), .array (.int), .int, .int, .boolean, .int, .array (.int), .array (.int), .array (.int), .array (.int), .array (.int), .int, .array (.int), .int, .array (.int), .int, .array (.int), .array (.int), .array (.int), .array (.int)]]
def gTy (c k : Nat) : FieldType := (gTyL.getD c []).getD k .int
def gSlL : List Nat := [10, 47, 7, 4, 4, 5, 3, 7, 6, 5, 11, 5, 4, 18, 3, 4, 8, 5, 4, 13, 14, 23, 2, 23, 7, 5, 6, 6, 6, 6, 6, 6, 12, 13, 6, 23, 25, 56, 53, 38, 10, 6, 2, 23]
def gTAL : List FieldType := [.int, .byte, .boolean, .short, .long, .object "TransportPair$Side", .object "TransportPair$Guard", .object "TransportPair$Crypto", .object "TransportPair$Space", .object "TransportPair$Cargo", .array (.byte), .object "TransportPair$Row", .object "TransportPair$Sending", .object "TransportPair$Receiving", .object "TransportPair$Way", .object "TransportPair$Line", .array (.boolean), .object "TransportPairModel$Side", .object "TransportPairModel$Cargo", .object "TransportPairModel$Draft"]
def gTA (t : Nat) : FieldType := gTAL.getD t .int
def gRkL : List (List Nat) := [[102, 102, 0, 0, 0, 102, 0, 106, 116, 117],
  [0, 0, 0, 3, 107, 107, 103, 22, 108, 11, 110, 24, 102, 0, 0, 0, 0, 0, 0, 0, 0, 0, 0, 0, 0, 0, 0, 0, 0, 0, 0, 0, 101, 101, 18, 19, 19, 20, 21, 102, 102, 0, 111, 101, 103, 103, 103],
  [4, 7, 8, 102, 102, 102, 102],
  [5, 102, 102, 102],
  [6, 6, 102, 102],
  [101, 101, 102, 0, 0],
  [101, 101, 102],
  [105, 105, 105, 102, 0, 0, 0],
  [102, 102, 102, 102, 0, 0],
  [102, 0, 102, 103, 0],
  [109, 12, 13, 0, 0, 0, 0, 0, 105, 105, 0],
  [0, 0, 0, 0, 0],
  [0, 0, 0, 0],
  [101, 104, 102, 0, 0, 0, 0, 0, 0, 0, 0, 15, 15, 16, 0, 0, 0, 0],
  [101, 0, 0],
  [105, 105, 0, 0],
  [101, 101, 102, 105, 105, 105, 0, 0],
  [105, 103, 101, 0, 0],
  [102, 0, 0, 0],
  [0, 0, 0, 0, 0, 0, 0, 0, 0, 0, 0, 0, 0],
  [0, 0, 0, 0, 0, 0, 105, 102, 0, 0, 0, 0, 105, 105],
  [0, 102, 102, 102, 0, 6, 4, 23, 112, 112, 111, 103, 102, 102, 102, 102, 102, 102, 0, 0, 0, 0, 0],
  [102, 0],
  [0, 113, 114, 115, 101, 105, 26, 27, 28, 0, 0, 0, 0, 0, 0, 0, 0, 0, 0, 0, 0, 0, 102],
  [0, 0, 0, 0, 0, 0, 0],
  [101, 101, 101, 0, 0],
  [102, 0, 101, 101, 101, 0],
  [102, 105, 101, 101, 0, 0],
  [111, 101, 101, 0, 0, 0],
  [],
  [],
  [],
  [0, 0, 0, 0, 0, 0, 0, 0, 0, 0, 0, 0],
  [0, 0, 0, 0, 0, 0, 0, 0, 0, 0, 0, 0, 0],
  [],
  [0, 102, 0, 101, 0, 37, 38, 118, 0, 0, 101, 101, 103, 101, 101, 102, 101, 101, 101, 101, 101, 0, 41],
  [105, 105, 101, 101, 101, 105, 105, 105, 101, 101, 101, 0, 101, 0, 101, 101, 101, 105, 105, 101, 101, 101, 101, 101, 101],
  [105, 105, 105, 105, 101, 101, 101, 103, 103, 105, 103, 101, 103, 105, 103, 101, 101, 103, 105, 105, 101, 101, 101, 101, 101, 101, 101, 105, 105, 101, 101, 103, 105, 105, 103, 103, 103, 105, 103, 101, 101, 102, 102, 101, 101, 101, 101, 101, 105, 102, 0, 0, 0, 0, 0, 101],
  [0, 37, 38, 44, 40, 105, 0, 0, 0, 0, 0, 0, 0, 101, 0, 0, 101, 0, 101, 103, 101, 41, 105, 101, 0, 101, 103, 101, 102, 101, 0, 0, 0, 0, 101, 0, 0, 0, 0, 0, 0, 0, 101, 0, 101, 119, 101, 120, 103, 103, 103, 0, 43],
  [0, 0, 0, 101, 101, 101, 102, 103, 103, 103, 101, 103, 101, 101, 0, 104, 101, 101, 0, 0, 0, 0, 0, 0, 0, 0, 0, 0, 105, 105, 101, 105, 105, 105, 101, 101, 101, 103],
  [101, 0, 0, 0, 0, 105, 0, 0, 0, 0],
  [0, 102, 101, 105, 105, 102],
  [101, 0],
  [0, 37, 101, 101, 101, 0, 0, 0, 0, 101, 101, 101, 101, 101, 0, 101, 0, 101, 0, 101, 101, 101, 101]]
def gRkA : List Nat := [0, 0, 0, 0, 0, 2, 9, 10, 14, 17, 102, 23, 33, 34, 25, 29, 103, 39, 42, 43]
/-- the kind that a reference in slot k of a cell of kind c has -/
def rk (c k : Nat) : Nat := if c ≤ 100 then (if c = 0 then 0 else (gRkL.getD (c - 1) []).getD k 0) else gRkA.getD (c - 101) 0
set_option maxRecDepth 100000
theorem gIn_0 : ∀ w ∈ u_ws "TransportPair" (gF 0) 10, w ∈ lw_all := lw_in _ [1500, 1502, 1504, 1506, 1508, 1510, 1512, 1514, 1516, 1518] (by decide +kernel) (by decide +kernel)
theorem gIn_1 : ∀ w ∈ u_ws "TransportPair$Side" (gF 1) 47, w ∈ lw_all := lw_in _ [1360, 1362, 1364, 1366, 1368, 1370, 1372, 1374, 1376, 1378, 1380, 1382, 1384, 1386, 1388, 1390, 1392, 1394, 1396, 1398, 1400, 1402, 1404, 1406, 1408, 1410, 1412, 1414, 1416, 1418, 1420, 1422, 1424, 1426, 1428, 1430, 1432, 1434, 1436, 1438, 1440, 1442, 1444, 1446, 1448, 1450, 1452] (by decide +kernel) (by decide +kernel)
theorem gIn_2 : ∀ w ∈ u_ws "TransportPair$Bench" (gF 2) 7, w ∈ lw_all := lw_in _ [450, 452, 454, 456, 458, 460, 462] (by decide +kernel) (by decide +kernel)
theorem gIn_3 : ∀ w ∈ u_ws "TransportPair$Stretch" (gF 3) 4, w ∈ lw_all := lw_in _ [381, 383, 385, 387] (by decide +kernel) (by decide +kernel)
theorem gIn_4 : ∀ w ∈ u_ws "TransportPair$Mac" (gF 4) 4, w ∈ lw_all := lw_in _ [367, 369, 371, 373] (by decide +kernel) (by decide +kernel)
theorem gIn_5 : ∀ w ∈ u_ws "TransportPair$Hash" (gF 5) 5, w ∈ lw_all := lw_in _ [350, 352, 354, 356, 358] (by decide +kernel) (by decide +kernel)
theorem gIn_6 : ∀ w ∈ u_ws "TransportPair$Keystream" (gF 6) 3, w ∈ lw_all := lw_in _ [400, 402, 404] (by decide +kernel) (by decide +kernel)
theorem gIn_7 : ∀ w ∈ u_ws "TransportPair$Tally" (gF 7) 7, w ∈ lw_all := lw_in _ [420, 422, 424, 426, 428, 430, 432] (by decide +kernel) (by decide +kernel)
theorem gIn_8 : ∀ w ∈ u_ws "TransportPair$Guard" (gF 8) 6, w ∈ lw_all := lw_in _ [478, 480, 482, 484, 486, 488] (by decide +kernel) (by decide +kernel)
theorem gIn_9 : ∀ w ∈ u_ws "TransportPair$Crypto" (gF 9) 5, w ∈ lw_all := lw_in _ [505, 507, 509, 511, 513] (by decide +kernel) (by decide +kernel)
theorem gIn_10 : ∀ w ∈ u_ws "TransportPair$Book" (gF 10) 11, w ∈ lw_all := lw_in _ [724, 726, 728, 730, 732, 734, 736, 738, 740, 742, 744] (by decide +kernel) (by decide +kernel)
theorem gIn_11 : ∀ w ∈ u_ws "TransportPair$Trip" (gF 11) 5, w ∈ lw_all := lw_in _ [541, 543, 545, 547, 549] (by decide +kernel) (by decide +kernel)
theorem gIn_12 : ∀ w ∈ u_ws "TransportPair$Window" (gF 12) 4, w ∈ lw_all := lw_in _ [567, 569, 571, 573] (by decide +kernel) (by decide +kernel)
theorem gIn_13 : ∀ w ∈ u_ws "TransportPair$Space" (gF 13) 18, w ∈ lw_all := lw_in _ [666, 668, 670, 672, 674, 676, 678, 680, 682, 684, 686, 688, 690, 692, 694, 696, 698, 700] (by decide +kernel) (by decide +kernel)
theorem gIn_14 : ∀ w ∈ u_ws "TransportPair$Queue" (gF 14) 3, w ∈ lw_all := lw_in _ [590, 592, 594] (by decide +kernel) (by decide +kernel)
theorem gIn_15 : ∀ w ∈ u_ws "TransportPair$Ranges" (gF 15) 4, w ∈ lw_all := lw_in _ [615, 617, 619, 621] (by decide +kernel) (by decide +kernel)
theorem gIn_16 : ∀ w ∈ u_ws "TransportPair$Cargo" (gF 16) 8, w ∈ lw_all := lw_in _ [771, 773, 775, 777, 779, 781, 783, 785] (by decide +kernel) (by decide +kernel)
theorem gIn_17 : ∀ w ∈ u_ws "TransportPair$Parameters" (gF 17) 5, w ∈ lw_all := lw_in _ [813, 815, 817, 819, 821] (by decide +kernel) (by decide +kernel)
theorem gIn_18 : ∀ w ∈ u_ws "TransportPair$Bytes" (gF 18) 4, w ∈ lw_all := lw_in _ [846, 848, 850, 852] (by decide +kernel) (by decide +kernel)
theorem gIn_19 : ∀ w ∈ u_ws "TransportPair$Header" (gF 19) 13, w ∈ lw_all := lw_in _ [882, 884, 886, 888, 890, 892, 894, 896, 898, 900, 902, 904, 906] (by decide +kernel) (by decide +kernel)
theorem gIn_20 : ∀ w ∈ u_ws "TransportPair$Frame" (gF 20) 14, w ∈ lw_all := lw_in _ [950, 952, 954, 956, 958, 960, 962, 964, 966, 968, 970, 972, 974, 976] (by decide +kernel) (by decide +kernel)
theorem gIn_21 : ∀ w ∈ u_ws "TransportPair$Greeting" (gF 21) 23, w ∈ lw_all := lw_in _ [1047, 1049, 1051, 1053, 1055, 1057, 1059, 1061, 1063, 1065, 1067, 1069, 1071, 1073, 1075, 1077, 1079, 1081, 1083, 1085, 1087, 1089, 1091] (by decide +kernel) (by decide +kernel)
theorem gIn_22 : ∀ w ∈ u_ws "TransportPair$Row" (gF 22) 2, w ∈ lw_all := lw_in _ [1003, 1005] (by decide +kernel) (by decide +kernel)
theorem gIn_23 : ∀ w ∈ u_ws "TransportPair$Hall" (gF 23) 23, w ∈ lw_all := lw_in _ [1243, 1245, 1247, 1249, 1251, 1253, 1255, 1257, 1259, 1261, 1263, 1265, 1267, 1269, 1271, 1273, 1275, 1277, 1279, 1281, 1283, 1285, 1287] (by decide +kernel) (by decide +kernel)
theorem gIn_24 : ∀ w ∈ u_ws "TransportPair$Way" (gF 24) 7, w ∈ lw_all := lw_in _ [1121, 1123, 1125, 1127, 1129, 1131, 1133] (by decide +kernel) (by decide +kernel)
theorem gIn_25 : ∀ w ∈ u_ws "TransportPair$Spans" (gF 25) 5, w ∈ lw_all := lw_in _ [1150, 1152, 1154, 1156, 1158] (by decide +kernel) (by decide +kernel)
theorem gIn_26 : ∀ w ∈ u_ws "TransportPair$Store" (gF 26) 6, w ∈ lw_all := lw_in _ [1175, 1177, 1179, 1181, 1183, 1185] (by decide +kernel) (by decide +kernel)
theorem gIn_27 : ∀ w ∈ u_ws "TransportPair$Blocks" (gF 27) 6, w ∈ lw_all := lw_in _ [1200, 1202, 1204, 1206, 1208, 1210] (by decide +kernel) (by decide +kernel)
theorem gIn_28 : ∀ w ∈ u_ws "TransportPair$Line" (gF 28) 6, w ∈ lw_all := lw_in _ [1475, 1477, 1479, 1481, 1483, 1485] (by decide +kernel) (by decide +kernel)
theorem gIn_29 : ∀ w ∈ u_ws "java/lang/IllegalStateException" (gF 29) 0, w ∈ lw_all := lw_in _ [] (by decide +kernel) (by decide +kernel)
theorem gIn_30 : ∀ w ∈ u_ws "java/lang/Throwable" (gF 30) 0, w ∈ lw_all := lw_in _ [] (by decide +kernel) (by decide +kernel)
theorem gIn_31 : ∀ w ∈ u_ws "java/lang/IllegalArgumentException" (gF 31) 0, w ∈ lw_all := lw_in _ [] (by decide +kernel) (by decide +kernel)
theorem gIn_32 : ∀ w ∈ u_ws "TransportPair$Sending" (gF 32) 12, w ∈ lw_all := lw_in _ [1946, 1948, 1950, 1952, 1954, 1956, 1958, 1960, 1962, 1964, 1966, 1968] (by decide +kernel) (by decide +kernel)
theorem gIn_33 : ∀ w ∈ u_ws "TransportPair$Receiving" (gF 33) 13, w ∈ lw_all := lw_in _ [1998, 2000, 2002, 2004, 2006, 2008, 2010, 2012, 2014, 2016, 2018, 2020, 2022] (by decide +kernel) (by decide +kernel)
theorem gIn_34 : ∀ w ∈ u_ws "java/util/NoSuchElementException" (gF 34) 0, w ∈ lw_all := lw_in _ [] (by decide +kernel) (by decide +kernel)
theorem gIn_35 : ∀ w ∈ u_ws "TransportPairModel" (gF 35) 23, w ∈ lw_all := lw_in _ [4054, 4056, 4058, 4060, 4062, 4064, 4066, 4068, 4070, 4072, 4074, 4076, 4078, 4080, 4082, 4084, 4086, 4088, 4090, 4092, 4094, 4096, 4098] (by decide +kernel) (by decide +kernel)
theorem gIn_36 : ∀ w ∈ u_ws "TransportPairModel$Seals" (gF 36) 25, w ∈ lw_all := lw_in _ [3277, 3279, 3281, 3283, 3285, 3287, 3289, 3291, 3293, 3295, 3297, 3299, 3301, 3303, 3305, 3307, 3309, 3311, 3313, 3315, 3317, 3319, 3321, 3323, 3325] (by decide +kernel) (by decide +kernel)
theorem gIn_37 : ∀ w ∈ u_ws "TransportPairModel$Streams" (gF 37) 56, w ∈ lw_all := lw_in _ [3398, 3400, 3402, 3404, 3406, 3408, 3410, 3412, 3414, 3416, 3418, 3420, 3422, 3424, 3426, 3428, 3430, 3432, 3434, 3436, 3438, 3440, 3442, 3444, 3446, 3448, 3450, 3452, 3454, 3456, 3458, 3460, 3462, 3464, 3466, 3468, 3470, 3472, 3474, 3476, 3478, 3480, 3482, 3484, 3486, 3488, 3490, 3492, 3494, 3496, 3498, 3500, 3502, 3504, 3506, 3508] (by decide +kernel) (by decide +kernel)
theorem gIn_38 : ∀ w ∈ u_ws "TransportPairModel$Side" (gF 38) 53, w ∈ lw_all := lw_in _ [3913, 3915, 3917, 3919, 3921, 3923, 3925, 3927, 3929, 3931, 3933, 3935, 3937, 3939, 3941, 3943, 3945, 3947, 3949, 3951, 3953, 3955, 3957, 3959, 3961, 3963, 3965, 3967, 3969, 3971, 3973, 3975, 3977, 3979, 3981, 3983, 3985, 3987, 3989, 3991, 3993, 3995, 3997, 3999, 4001, 4003, 4005, 4007, 4009, 4011, 4013, 4015, 4017] (by decide +kernel) (by decide +kernel)
theorem gIn_39 : ∀ w ∈ u_ws "TransportPairModel$Book" (gF 39) 38, w ∈ lw_all := lw_in _ [3575, 3577, 3579, 3581, 3583, 3585, 3587, 3589, 3591, 3593, 3595, 3597, 3599, 3601, 3603, 3605, 3607, 3609, 3611, 3613, 3615, 3617, 3619, 3621, 3623, 3625, 3627, 3629, 3631, 3633, 3635, 3637, 3639, 3641, 3643, 3645, 3647, 3649] (by decide +kernel) (by decide +kernel)
theorem gIn_40 : ∀ w ∈ u_ws "TransportPairModel$Wire" (gF 40) 10, w ∈ lw_all := lw_in _ [3683, 3685, 3687, 3689, 3691, 3693, 3695, 3697, 3699, 3701] (by decide +kernel) (by decide +kernel)
theorem gIn_41 : ∀ w ∈ u_ws "TransportPairModel$Cargo" (gF 41) 6, w ∈ lw_all := lw_in _ [3724, 3726, 3728, 3730, 3732, 3734] (by decide +kernel) (by decide +kernel)
theorem gIn_42 : ∀ w ∈ u_ws "TransportPairModel$Draft" (gF 42) 2, w ∈ lw_all := lw_in _ [3750, 3752] (by decide +kernel) (by decide +kernel)
theorem gIn_43 : ∀ w ∈ u_ws "TransportPairModel$Greet" (gF 43) 23, w ∈ lw_all := lw_in _ [3798, 3800, 3802, 3804, 3806, 3808, 3810, 3812, 3814, 3816, 3818, 3820, 3822, 3824, 3826, 3828, 3830, 3832, 3834, 3836, 3838, 3840, 3842] (by decide +kernel) (by decide +kernel)
theorem gIn {c : Nat} {q : vw_C} (h : gCL[c]? = some q) : ∀ w ∈ u_ws q.1 q.2.1 q.2.2, w ∈ lw_all := by
  match c, h with
  | 0, h => cases h; exact gIn_0
  | 1, h => cases h; exact gIn_1
  | 2, h => cases h; exact gIn_2
  | 3, h => cases h; exact gIn_3
  | 4, h => cases h; exact gIn_4
  | 5, h => cases h; exact gIn_5
  | 6, h => cases h; exact gIn_6
  | 7, h => cases h; exact gIn_7
  | 8, h => cases h; exact gIn_8
  | 9, h => cases h; exact gIn_9
  | 10, h => cases h; exact gIn_10
  | 11, h => cases h; exact gIn_11
  | 12, h => cases h; exact gIn_12
  | 13, h => cases h; exact gIn_13
  | 14, h => cases h; exact gIn_14
  | 15, h => cases h; exact gIn_15
  | 16, h => cases h; exact gIn_16
  | 17, h => cases h; exact gIn_17
  | 18, h => cases h; exact gIn_18
  | 19, h => cases h; exact gIn_19
  | 20, h => cases h; exact gIn_20
  | 21, h => cases h; exact gIn_21
  | 22, h => cases h; exact gIn_22
  | 23, h => cases h; exact gIn_23
  | 24, h => cases h; exact gIn_24
  | 25, h => cases h; exact gIn_25
  | 26, h => cases h; exact gIn_26
  | 27, h => cases h; exact gIn_27
  | 28, h => cases h; exact gIn_28
  | 29, h => cases h; exact gIn_29
  | 30, h => cases h; exact gIn_30
  | 31, h => cases h; exact gIn_31
  | 32, h => cases h; exact gIn_32
  | 33, h => cases h; exact gIn_33
  | 34, h => cases h; exact gIn_34
  | 35, h => cases h; exact gIn_35
  | 36, h => cases h; exact gIn_36
  | 37, h => cases h; exact gIn_37
  | 38, h => cases h; exact gIn_38
  | 39, h => cases h; exact gIn_39
  | 40, h => cases h; exact gIn_40
  | 41, h => cases h; exact gIn_41
  | 42, h => cases h; exact gIn_42
  | 43, h => cases h; exact gIn_43
  | c + 44, h => exact absurd h (by rw [show gCL[c + 44]? = none from List.getElem?_eq_none (by show 44 ≤ c + 44; omega)]; exact fun z => by cases z)
theorem gNm_0 : ∀ a, a < 10 → ∀ b, b < 10 → a ≠ b → (gF 0 a).2.1 ≠ (gF 0 b).2.1 := by decide +kernel
theorem gTk_0 : ∀ k, k < 10 → parseFieldDescriptor (gF 0 k).2.2.1 = some (gTy 0 k) := by decide +kernel
theorem gOw_0 : ∀ k, k < 10 → (gF 0 k).1 = "TransportPair" := by decide +kernel
theorem gNm_1 : ∀ a, a < 47 → ∀ b, b < 47 → a ≠ b → (gF 1 a).2.1 ≠ (gF 1 b).2.1 := by decide +kernel
theorem gTk_1 : ∀ k, k < 47 → parseFieldDescriptor (gF 1 k).2.2.1 = some (gTy 1 k) := by decide +kernel
theorem gOw_1 : ∀ k, k < 47 → (gF 1 k).1 = "TransportPair$Side" := by decide +kernel
theorem gNm_2 : ∀ a, a < 7 → ∀ b, b < 7 → a ≠ b → (gF 2 a).2.1 ≠ (gF 2 b).2.1 := by decide +kernel
theorem gTk_2 : ∀ k, k < 7 → parseFieldDescriptor (gF 2 k).2.2.1 = some (gTy 2 k) := by decide +kernel
theorem gOw_2 : ∀ k, k < 7 → (gF 2 k).1 = "TransportPair$Bench" := by decide +kernel
theorem gNm_3 : ∀ a, a < 4 → ∀ b, b < 4 → a ≠ b → (gF 3 a).2.1 ≠ (gF 3 b).2.1 := by decide +kernel
theorem gTk_3 : ∀ k, k < 4 → parseFieldDescriptor (gF 3 k).2.2.1 = some (gTy 3 k) := by decide +kernel
theorem gOw_3 : ∀ k, k < 4 → (gF 3 k).1 = "TransportPair$Stretch" := by decide +kernel
theorem gNm_4 : ∀ a, a < 4 → ∀ b, b < 4 → a ≠ b → (gF 4 a).2.1 ≠ (gF 4 b).2.1 := by decide +kernel
theorem gTk_4 : ∀ k, k < 4 → parseFieldDescriptor (gF 4 k).2.2.1 = some (gTy 4 k) := by decide +kernel
theorem gOw_4 : ∀ k, k < 4 → (gF 4 k).1 = "TransportPair$Mac" := by decide +kernel
theorem gNm_5 : ∀ a, a < 5 → ∀ b, b < 5 → a ≠ b → (gF 5 a).2.1 ≠ (gF 5 b).2.1 := by decide +kernel
theorem gTk_5 : ∀ k, k < 5 → parseFieldDescriptor (gF 5 k).2.2.1 = some (gTy 5 k) := by decide +kernel
theorem gOw_5 : ∀ k, k < 5 → (gF 5 k).1 = "TransportPair$Hash" := by decide +kernel
theorem gNm_6 : ∀ a, a < 3 → ∀ b, b < 3 → a ≠ b → (gF 6 a).2.1 ≠ (gF 6 b).2.1 := by decide +kernel
theorem gTk_6 : ∀ k, k < 3 → parseFieldDescriptor (gF 6 k).2.2.1 = some (gTy 6 k) := by decide +kernel
theorem gOw_6 : ∀ k, k < 3 → (gF 6 k).1 = "TransportPair$Keystream" := by decide +kernel
theorem gNm_7 : ∀ a, a < 7 → ∀ b, b < 7 → a ≠ b → (gF 7 a).2.1 ≠ (gF 7 b).2.1 := by decide +kernel
theorem gTk_7 : ∀ k, k < 7 → parseFieldDescriptor (gF 7 k).2.2.1 = some (gTy 7 k) := by decide +kernel
theorem gOw_7 : ∀ k, k < 7 → (gF 7 k).1 = "TransportPair$Tally" := by decide +kernel
theorem gNm_8 : ∀ a, a < 6 → ∀ b, b < 6 → a ≠ b → (gF 8 a).2.1 ≠ (gF 8 b).2.1 := by decide +kernel
theorem gTk_8 : ∀ k, k < 6 → parseFieldDescriptor (gF 8 k).2.2.1 = some (gTy 8 k) := by decide +kernel
theorem gOw_8 : ∀ k, k < 6 → (gF 8 k).1 = "TransportPair$Guard" := by decide +kernel
theorem gNm_9 : ∀ a, a < 5 → ∀ b, b < 5 → a ≠ b → (gF 9 a).2.1 ≠ (gF 9 b).2.1 := by decide +kernel
theorem gTk_9 : ∀ k, k < 5 → parseFieldDescriptor (gF 9 k).2.2.1 = some (gTy 9 k) := by decide +kernel
theorem gOw_9 : ∀ k, k < 5 → (gF 9 k).1 = "TransportPair$Crypto" := by decide +kernel
theorem gNm_10 : ∀ a, a < 11 → ∀ b, b < 11 → a ≠ b → (gF 10 a).2.1 ≠ (gF 10 b).2.1 := by decide +kernel
theorem gTk_10 : ∀ k, k < 11 → parseFieldDescriptor (gF 10 k).2.2.1 = some (gTy 10 k) := by decide +kernel
theorem gOw_10 : ∀ k, k < 11 → (gF 10 k).1 = "TransportPair$Book" := by decide +kernel
theorem gNm_11 : ∀ a, a < 5 → ∀ b, b < 5 → a ≠ b → (gF 11 a).2.1 ≠ (gF 11 b).2.1 := by decide +kernel
theorem gTk_11 : ∀ k, k < 5 → parseFieldDescriptor (gF 11 k).2.2.1 = some (gTy 11 k) := by decide +kernel
theorem gOw_11 : ∀ k, k < 5 → (gF 11 k).1 = "TransportPair$Trip" := by decide +kernel
theorem gNm_12 : ∀ a, a < 4 → ∀ b, b < 4 → a ≠ b → (gF 12 a).2.1 ≠ (gF 12 b).2.1 := by decide +kernel
theorem gTk_12 : ∀ k, k < 4 → parseFieldDescriptor (gF 12 k).2.2.1 = some (gTy 12 k) := by decide +kernel
theorem gOw_12 : ∀ k, k < 4 → (gF 12 k).1 = "TransportPair$Window" := by decide +kernel
theorem gNm_13 : ∀ a, a < 18 → ∀ b, b < 18 → a ≠ b → (gF 13 a).2.1 ≠ (gF 13 b).2.1 := by decide +kernel
theorem gTk_13 : ∀ k, k < 18 → parseFieldDescriptor (gF 13 k).2.2.1 = some (gTy 13 k) := by decide +kernel
theorem gOw_13 : ∀ k, k < 18 → (gF 13 k).1 = "TransportPair$Space" := by decide +kernel
theorem gNm_14 : ∀ a, a < 3 → ∀ b, b < 3 → a ≠ b → (gF 14 a).2.1 ≠ (gF 14 b).2.1 := by decide +kernel
theorem gTk_14 : ∀ k, k < 3 → parseFieldDescriptor (gF 14 k).2.2.1 = some (gTy 14 k) := by decide +kernel
theorem gOw_14 : ∀ k, k < 3 → (gF 14 k).1 = "TransportPair$Queue" := by decide +kernel
theorem gNm_15 : ∀ a, a < 4 → ∀ b, b < 4 → a ≠ b → (gF 15 a).2.1 ≠ (gF 15 b).2.1 := by decide +kernel
theorem gTk_15 : ∀ k, k < 4 → parseFieldDescriptor (gF 15 k).2.2.1 = some (gTy 15 k) := by decide +kernel
theorem gOw_15 : ∀ k, k < 4 → (gF 15 k).1 = "TransportPair$Ranges" := by decide +kernel
theorem gNm_16 : ∀ a, a < 8 → ∀ b, b < 8 → a ≠ b → (gF 16 a).2.1 ≠ (gF 16 b).2.1 := by decide +kernel
theorem gTk_16 : ∀ k, k < 8 → parseFieldDescriptor (gF 16 k).2.2.1 = some (gTy 16 k) := by decide +kernel
theorem gOw_16 : ∀ k, k < 8 → (gF 16 k).1 = "TransportPair$Cargo" := by decide +kernel
theorem gNm_17 : ∀ a, a < 5 → ∀ b, b < 5 → a ≠ b → (gF 17 a).2.1 ≠ (gF 17 b).2.1 := by decide +kernel
theorem gTk_17 : ∀ k, k < 5 → parseFieldDescriptor (gF 17 k).2.2.1 = some (gTy 17 k) := by decide +kernel
theorem gOw_17 : ∀ k, k < 5 → (gF 17 k).1 = "TransportPair$Parameters" := by decide +kernel
theorem gNm_18 : ∀ a, a < 4 → ∀ b, b < 4 → a ≠ b → (gF 18 a).2.1 ≠ (gF 18 b).2.1 := by decide +kernel
theorem gTk_18 : ∀ k, k < 4 → parseFieldDescriptor (gF 18 k).2.2.1 = some (gTy 18 k) := by decide +kernel
theorem gOw_18 : ∀ k, k < 4 → (gF 18 k).1 = "TransportPair$Bytes" := by decide +kernel
theorem gNm_19 : ∀ a, a < 13 → ∀ b, b < 13 → a ≠ b → (gF 19 a).2.1 ≠ (gF 19 b).2.1 := by decide +kernel
theorem gTk_19 : ∀ k, k < 13 → parseFieldDescriptor (gF 19 k).2.2.1 = some (gTy 19 k) := by decide +kernel
theorem gOw_19 : ∀ k, k < 13 → (gF 19 k).1 = "TransportPair$Header" := by decide +kernel
theorem gNm_20 : ∀ a, a < 14 → ∀ b, b < 14 → a ≠ b → (gF 20 a).2.1 ≠ (gF 20 b).2.1 := by decide +kernel
theorem gTk_20 : ∀ k, k < 14 → parseFieldDescriptor (gF 20 k).2.2.1 = some (gTy 20 k) := by decide +kernel
theorem gOw_20 : ∀ k, k < 14 → (gF 20 k).1 = "TransportPair$Frame" := by decide +kernel
theorem gNm_21 : ∀ a, a < 23 → ∀ b, b < 23 → a ≠ b → (gF 21 a).2.1 ≠ (gF 21 b).2.1 := by decide +kernel
theorem gTk_21 : ∀ k, k < 23 → parseFieldDescriptor (gF 21 k).2.2.1 = some (gTy 21 k) := by decide +kernel
theorem gOw_21 : ∀ k, k < 23 → (gF 21 k).1 = "TransportPair$Greeting" := by decide +kernel
theorem gNm_22 : ∀ a, a < 2 → ∀ b, b < 2 → a ≠ b → (gF 22 a).2.1 ≠ (gF 22 b).2.1 := by decide +kernel
theorem gTk_22 : ∀ k, k < 2 → parseFieldDescriptor (gF 22 k).2.2.1 = some (gTy 22 k) := by decide +kernel
theorem gOw_22 : ∀ k, k < 2 → (gF 22 k).1 = "TransportPair$Row" := by decide +kernel
theorem gNm_23 : ∀ a, a < 23 → ∀ b, b < 23 → a ≠ b → (gF 23 a).2.1 ≠ (gF 23 b).2.1 := by decide +kernel
theorem gTk_23 : ∀ k, k < 23 → parseFieldDescriptor (gF 23 k).2.2.1 = some (gTy 23 k) := by decide +kernel
theorem gOw_23 : ∀ k, k < 23 → (gF 23 k).1 = "TransportPair$Hall" := by decide +kernel
theorem gNm_24 : ∀ a, a < 7 → ∀ b, b < 7 → a ≠ b → (gF 24 a).2.1 ≠ (gF 24 b).2.1 := by decide +kernel
theorem gTk_24 : ∀ k, k < 7 → parseFieldDescriptor (gF 24 k).2.2.1 = some (gTy 24 k) := by decide +kernel
theorem gOw_24 : ∀ k, k < 7 → (gF 24 k).1 = "TransportPair$Way" := by decide +kernel
theorem gNm_25 : ∀ a, a < 5 → ∀ b, b < 5 → a ≠ b → (gF 25 a).2.1 ≠ (gF 25 b).2.1 := by decide +kernel
theorem gTk_25 : ∀ k, k < 5 → parseFieldDescriptor (gF 25 k).2.2.1 = some (gTy 25 k) := by decide +kernel
theorem gOw_25 : ∀ k, k < 5 → (gF 25 k).1 = "TransportPair$Spans" := by decide +kernel
theorem gNm_26 : ∀ a, a < 6 → ∀ b, b < 6 → a ≠ b → (gF 26 a).2.1 ≠ (gF 26 b).2.1 := by decide +kernel
theorem gTk_26 : ∀ k, k < 6 → parseFieldDescriptor (gF 26 k).2.2.1 = some (gTy 26 k) := by decide +kernel
theorem gOw_26 : ∀ k, k < 6 → (gF 26 k).1 = "TransportPair$Store" := by decide +kernel
theorem gNm_27 : ∀ a, a < 6 → ∀ b, b < 6 → a ≠ b → (gF 27 a).2.1 ≠ (gF 27 b).2.1 := by decide +kernel
theorem gTk_27 : ∀ k, k < 6 → parseFieldDescriptor (gF 27 k).2.2.1 = some (gTy 27 k) := by decide +kernel
theorem gOw_27 : ∀ k, k < 6 → (gF 27 k).1 = "TransportPair$Blocks" := by decide +kernel
theorem gNm_28 : ∀ a, a < 6 → ∀ b, b < 6 → a ≠ b → (gF 28 a).2.1 ≠ (gF 28 b).2.1 := by decide +kernel
theorem gTk_28 : ∀ k, k < 6 → parseFieldDescriptor (gF 28 k).2.2.1 = some (gTy 28 k) := by decide +kernel
theorem gOw_28 : ∀ k, k < 6 → (gF 28 k).1 = "TransportPair$Line" := by decide +kernel
theorem gNm_29 : ∀ a, a < 0 → ∀ b, b < 0 → a ≠ b → (gF 29 a).2.1 ≠ (gF 29 b).2.1 := by decide +kernel
theorem gTk_29 : ∀ k, k < 0 → parseFieldDescriptor (gF 29 k).2.2.1 = some (gTy 29 k) := by decide +kernel
theorem gOw_29 : ∀ k, k < 0 → (gF 29 k).1 = "java/lang/IllegalStateException" := by decide +kernel
theorem gNm_30 : ∀ a, a < 0 → ∀ b, b < 0 → a ≠ b → (gF 30 a).2.1 ≠ (gF 30 b).2.1 := by decide +kernel
theorem gTk_30 : ∀ k, k < 0 → parseFieldDescriptor (gF 30 k).2.2.1 = some (gTy 30 k) := by decide +kernel
theorem gOw_30 : ∀ k, k < 0 → (gF 30 k).1 = "java/lang/Throwable" := by decide +kernel
theorem gNm_31 : ∀ a, a < 0 → ∀ b, b < 0 → a ≠ b → (gF 31 a).2.1 ≠ (gF 31 b).2.1 := by decide +kernel
theorem gTk_31 : ∀ k, k < 0 → parseFieldDescriptor (gF 31 k).2.2.1 = some (gTy 31 k) := by decide +kernel
theorem gOw_31 : ∀ k, k < 0 → (gF 31 k).1 = "java/lang/IllegalArgumentException" := by decide +kernel
theorem gNm_32 : ∀ a, a < 12 → ∀ b, b < 12 → a ≠ b → (gF 32 a).2.1 ≠ (gF 32 b).2.1 := by decide +kernel
theorem gTk_32 : ∀ k, k < 12 → parseFieldDescriptor (gF 32 k).2.2.1 = some (gTy 32 k) := by decide +kernel
theorem gOw_32 : ∀ k, k < 12 → (gF 32 k).1 = "TransportPair$Sending" := by decide +kernel
theorem gNm_33 : ∀ a, a < 13 → ∀ b, b < 13 → a ≠ b → (gF 33 a).2.1 ≠ (gF 33 b).2.1 := by decide +kernel
theorem gTk_33 : ∀ k, k < 13 → parseFieldDescriptor (gF 33 k).2.2.1 = some (gTy 33 k) := by decide +kernel
theorem gOw_33 : ∀ k, k < 13 → (gF 33 k).1 = "TransportPair$Receiving" := by decide +kernel
theorem gNm_34 : ∀ a, a < 0 → ∀ b, b < 0 → a ≠ b → (gF 34 a).2.1 ≠ (gF 34 b).2.1 := by decide +kernel
theorem gTk_34 : ∀ k, k < 0 → parseFieldDescriptor (gF 34 k).2.2.1 = some (gTy 34 k) := by decide +kernel
theorem gOw_34 : ∀ k, k < 0 → (gF 34 k).1 = "java/util/NoSuchElementException" := by decide +kernel
theorem gNm_35 : ∀ a, a < 23 → ∀ b, b < 23 → a ≠ b → (gF 35 a).2.1 ≠ (gF 35 b).2.1 := by decide +kernel
theorem gTk_35 : ∀ k, k < 23 → parseFieldDescriptor (gF 35 k).2.2.1 = some (gTy 35 k) := by decide +kernel
theorem gOw_35 : ∀ k, k < 23 → (gF 35 k).1 = "TransportPairModel" := by decide +kernel
theorem gNm_36 : ∀ a, a < 25 → ∀ b, b < 25 → a ≠ b → (gF 36 a).2.1 ≠ (gF 36 b).2.1 := by decide +kernel
theorem gTk_36 : ∀ k, k < 25 → parseFieldDescriptor (gF 36 k).2.2.1 = some (gTy 36 k) := by decide +kernel
theorem gOw_36 : ∀ k, k < 25 → (gF 36 k).1 = "TransportPairModel$Seals" := by decide +kernel
theorem gNm_37 : ∀ a, a < 56 → ∀ b, b < 56 → a ≠ b → (gF 37 a).2.1 ≠ (gF 37 b).2.1 := by decide +kernel
theorem gTk_37 : ∀ k, k < 56 → parseFieldDescriptor (gF 37 k).2.2.1 = some (gTy 37 k) := by decide +kernel
theorem gOw_37 : ∀ k, k < 56 → (gF 37 k).1 = "TransportPairModel$Streams" := by decide +kernel
theorem gNm_38 : ∀ a, a < 53 → ∀ b, b < 53 → a ≠ b → (gF 38 a).2.1 ≠ (gF 38 b).2.1 := by decide +kernel
theorem gTk_38 : ∀ k, k < 53 → parseFieldDescriptor (gF 38 k).2.2.1 = some (gTy 38 k) := by decide +kernel
theorem gOw_38 : ∀ k, k < 53 → (gF 38 k).1 = "TransportPairModel$Side" := by decide +kernel
theorem gNm_39 : ∀ a, a < 38 → ∀ b, b < 38 → a ≠ b → (gF 39 a).2.1 ≠ (gF 39 b).2.1 := by decide +kernel
theorem gTk_39 : ∀ k, k < 38 → parseFieldDescriptor (gF 39 k).2.2.1 = some (gTy 39 k) := by decide +kernel
theorem gOw_39 : ∀ k, k < 38 → (gF 39 k).1 = "TransportPairModel$Book" := by decide +kernel
theorem gNm_40 : ∀ a, a < 10 → ∀ b, b < 10 → a ≠ b → (gF 40 a).2.1 ≠ (gF 40 b).2.1 := by decide +kernel
theorem gTk_40 : ∀ k, k < 10 → parseFieldDescriptor (gF 40 k).2.2.1 = some (gTy 40 k) := by decide +kernel
theorem gOw_40 : ∀ k, k < 10 → (gF 40 k).1 = "TransportPairModel$Wire" := by decide +kernel
theorem gNm_41 : ∀ a, a < 6 → ∀ b, b < 6 → a ≠ b → (gF 41 a).2.1 ≠ (gF 41 b).2.1 := by decide +kernel
theorem gTk_41 : ∀ k, k < 6 → parseFieldDescriptor (gF 41 k).2.2.1 = some (gTy 41 k) := by decide +kernel
theorem gOw_41 : ∀ k, k < 6 → (gF 41 k).1 = "TransportPairModel$Cargo" := by decide +kernel
theorem gNm_42 : ∀ a, a < 2 → ∀ b, b < 2 → a ≠ b → (gF 42 a).2.1 ≠ (gF 42 b).2.1 := by decide +kernel
theorem gTk_42 : ∀ k, k < 2 → parseFieldDescriptor (gF 42 k).2.2.1 = some (gTy 42 k) := by decide +kernel
theorem gOw_42 : ∀ k, k < 2 → (gF 42 k).1 = "TransportPairModel$Draft" := by decide +kernel
theorem gNm_43 : ∀ a, a < 23 → ∀ b, b < 23 → a ≠ b → (gF 43 a).2.1 ≠ (gF 43 b).2.1 := by decide +kernel
theorem gTk_43 : ∀ k, k < 23 → parseFieldDescriptor (gF 43 k).2.2.1 = some (gTy 43 k) := by decide +kernel
theorem gOw_43 : ∀ k, k < 23 → (gF 43 k).1 = "TransportPairModel$Greet" := by decide +kernel
theorem gNm {c : Nat} {q : vw_C} (h : gCL[c]? = some q) : ∀ a, a < q.2.2 → ∀ b, b < q.2.2 → a ≠ b → (q.2.1 a).2.1 ≠ (q.2.1 b).2.1 := by
  match c, h with
  | 0, h => cases h; exact gNm_0
  | 1, h => cases h; exact gNm_1
  | 2, h => cases h; exact gNm_2
  | 3, h => cases h; exact gNm_3
  | 4, h => cases h; exact gNm_4
  | 5, h => cases h; exact gNm_5
  | 6, h => cases h; exact gNm_6
  | 7, h => cases h; exact gNm_7
  | 8, h => cases h; exact gNm_8
  | 9, h => cases h; exact gNm_9
  | 10, h => cases h; exact gNm_10
  | 11, h => cases h; exact gNm_11
  | 12, h => cases h; exact gNm_12
  | 13, h => cases h; exact gNm_13
  | 14, h => cases h; exact gNm_14
  | 15, h => cases h; exact gNm_15
  | 16, h => cases h; exact gNm_16
  | 17, h => cases h; exact gNm_17
  | 18, h => cases h; exact gNm_18
  | 19, h => cases h; exact gNm_19
  | 20, h => cases h; exact gNm_20
  | 21, h => cases h; exact gNm_21
  | 22, h => cases h; exact gNm_22
  | 23, h => cases h; exact gNm_23
  | 24, h => cases h; exact gNm_24
  | 25, h => cases h; exact gNm_25
  | 26, h => cases h; exact gNm_26
  | 27, h => cases h; exact gNm_27
  | 28, h => cases h; exact gNm_28
  | 29, h => cases h; exact gNm_29
  | 30, h => cases h; exact gNm_30
  | 31, h => cases h; exact gNm_31
  | 32, h => cases h; exact gNm_32
  | 33, h => cases h; exact gNm_33
  | 34, h => cases h; exact gNm_34
  | 35, h => cases h; exact gNm_35
  | 36, h => cases h; exact gNm_36
  | 37, h => cases h; exact gNm_37
  | 38, h => cases h; exact gNm_38
  | 39, h => cases h; exact gNm_39
  | 40, h => cases h; exact gNm_40
  | 41, h => cases h; exact gNm_41
  | 42, h => cases h; exact gNm_42
  | 43, h => cases h; exact gNm_43
  | c + 44, h => exact absurd h (by rw [show gCL[c + 44]? = none from List.getElem?_eq_none (by show 44 ≤ c + 44; omega)]; exact fun z => by cases z)
theorem gTk {c : Nat} {q : vw_C} (h : gCL[c]? = some q) : ∀ k, k < q.2.2 → parseFieldDescriptor (q.2.1 k).2.2.1 = some (gTy c k) := by
  match c, h with
  | 0, h => cases h; exact gTk_0
  | 1, h => cases h; exact gTk_1
  | 2, h => cases h; exact gTk_2
  | 3, h => cases h; exact gTk_3
  | 4, h => cases h; exact gTk_4
  | 5, h => cases h; exact gTk_5
  | 6, h => cases h; exact gTk_6
  | 7, h => cases h; exact gTk_7
  | 8, h => cases h; exact gTk_8
  | 9, h => cases h; exact gTk_9
  | 10, h => cases h; exact gTk_10
  | 11, h => cases h; exact gTk_11
  | 12, h => cases h; exact gTk_12
  | 13, h => cases h; exact gTk_13
  | 14, h => cases h; exact gTk_14
  | 15, h => cases h; exact gTk_15
  | 16, h => cases h; exact gTk_16
  | 17, h => cases h; exact gTk_17
  | 18, h => cases h; exact gTk_18
  | 19, h => cases h; exact gTk_19
  | 20, h => cases h; exact gTk_20
  | 21, h => cases h; exact gTk_21
  | 22, h => cases h; exact gTk_22
  | 23, h => cases h; exact gTk_23
  | 24, h => cases h; exact gTk_24
  | 25, h => cases h; exact gTk_25
  | 26, h => cases h; exact gTk_26
  | 27, h => cases h; exact gTk_27
  | 28, h => cases h; exact gTk_28
  | 29, h => cases h; exact gTk_29
  | 30, h => cases h; exact gTk_30
  | 31, h => cases h; exact gTk_31
  | 32, h => cases h; exact gTk_32
  | 33, h => cases h; exact gTk_33
  | 34, h => cases h; exact gTk_34
  | 35, h => cases h; exact gTk_35
  | 36, h => cases h; exact gTk_36
  | 37, h => cases h; exact gTk_37
  | 38, h => cases h; exact gTk_38
  | 39, h => cases h; exact gTk_39
  | 40, h => cases h; exact gTk_40
  | 41, h => cases h; exact gTk_41
  | 42, h => cases h; exact gTk_42
  | 43, h => cases h; exact gTk_43
  | c + 44, h => exact absurd h (by rw [show gCL[c + 44]? = none from List.getElem?_eq_none (by show 44 ≤ c + 44; omega)]; exact fun z => by cases z)
theorem gOw {c : Nat} {q : vw_C} (h : gCL[c]? = some q) : ∀ k, k < q.2.2 → (q.2.1 k).1 = q.1 := by
  match c, h with
  | 0, h => cases h; exact gOw_0
  | 1, h => cases h; exact gOw_1
  | 2, h => cases h; exact gOw_2
  | 3, h => cases h; exact gOw_3
  | 4, h => cases h; exact gOw_4
  | 5, h => cases h; exact gOw_5
  | 6, h => cases h; exact gOw_6
  | 7, h => cases h; exact gOw_7
  | 8, h => cases h; exact gOw_8
  | 9, h => cases h; exact gOw_9
  | 10, h => cases h; exact gOw_10
  | 11, h => cases h; exact gOw_11
  | 12, h => cases h; exact gOw_12
  | 13, h => cases h; exact gOw_13
  | 14, h => cases h; exact gOw_14
  | 15, h => cases h; exact gOw_15
  | 16, h => cases h; exact gOw_16
  | 17, h => cases h; exact gOw_17
  | 18, h => cases h; exact gOw_18
  | 19, h => cases h; exact gOw_19
  | 20, h => cases h; exact gOw_20
  | 21, h => cases h; exact gOw_21
  | 22, h => cases h; exact gOw_22
  | 23, h => cases h; exact gOw_23
  | 24, h => cases h; exact gOw_24
  | 25, h => cases h; exact gOw_25
  | 26, h => cases h; exact gOw_26
  | 27, h => cases h; exact gOw_27
  | 28, h => cases h; exact gOw_28
  | 29, h => cases h; exact gOw_29
  | 30, h => cases h; exact gOw_30
  | 31, h => cases h; exact gOw_31
  | 32, h => cases h; exact gOw_32
  | 33, h => cases h; exact gOw_33
  | 34, h => cases h; exact gOw_34
  | 35, h => cases h; exact gOw_35
  | 36, h => cases h; exact gOw_36
  | 37, h => cases h; exact gOw_37
  | 38, h => cases h; exact gOw_38
  | 39, h => cases h; exact gOw_39
  | 40, h => cases h; exact gOw_40
  | 41, h => cases h; exact gOw_41
  | 42, h => cases h; exact gOw_42
  | 43, h => cases h; exact gOw_43
  | c + 44, h => exact absurd h (by rw [show gCL[c + 44]? = none from List.getElem?_eq_none (by show 44 ≤ c + 44; omega)]; exact fun z => by cases z)
